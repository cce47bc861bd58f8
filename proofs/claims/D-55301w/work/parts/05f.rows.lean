-- X5_does
def P_X5_does (κ : Nat → Nat) (a0 : Nat) (x1 : Option Nat) (σ : xS) (K : Int32 → xH → Prop) (KX : Nat → xH → Prop) : Prop :=
  xgq σ a0 11 0 fun v1 => xnn v1 fun b2 => xrc σ b2 9 ∧ xcall (fun τ L => P_J14_hashCode κ b2 τ L) σ fun v3 σ4 => ((v3 = (-1335157162 : Int32) → (xrc σ4 b2 9 ∧ xcall (fun τ L => P_J14_equals κ b2 (some (κ 16)) τ L) σ4 fun v859 σ860 => ((v859 = 0 → ((((-1 : Int32) = (0 : Int32) → (xgi σ860 a0 11 1 fun v911 => xnn x1 fun b912 => xrc σ860 b912 1 ∧ xcallX (fun τ L LX => P_X2_readsWord κ b912 v911 τ L LX) σ860 (fun v913 σ914 => K v913 σ914.1) (fun q915 σ916 => κ 0 ≤ q915 ∧ ((xrc σ916 q915 26 ∧ (KX q915 σ916.1)))))) ∧ (¬ (-1 : Int32) = (0 : Int32) → (((-1 : Int32) = (1 : Int32) → (xgi σ860 a0 11 1 fun v904 => xgi σ860 a0 11 2 fun v905 => xnn x1 fun b906 => xrc σ860 b906 1 ∧ xcallX (fun τ L LX => P_X2_writesWord κ b906 v904 v905 τ L LX) σ860 (fun v907 σ908 => K v907 σ908.1) (fun q909 σ910 => κ 0 ≤ q909 ∧ ((xrc σ910 q909 26 ∧ (KX q909 σ910.1)))))) ∧ (¬ (-1 : Int32) = (1 : Int32) → (((-1 : Int32) = (2 : Int32) → (xgi σ860 a0 11 1 fun v898 => xnn x1 fun b899 => xrc σ860 b899 1 ∧ xcallX (fun τ L LX => P_X2_pins κ b899 v898 τ L LX) σ860 (fun v900 σ901 => K v900 σ901.1) (fun q902 σ903 => κ 0 ≤ q902 ∧ ((xrc σ903 q902 26 ∧ (KX q902 σ903.1)))))) ∧ (¬ (-1 : Int32) = (2 : Int32) → (((-1 : Int32) = (3 : Int32) → (xgi σ860 a0 11 1 fun v892 => xnn x1 fun b893 => xrc σ860 b893 1 ∧ xcallX (fun τ L LX => P_X2_frees κ b893 v892 τ L LX) σ860 (fun v894 σ895 => K v894 σ895.1) (fun q896 σ897 => κ 0 ≤ q896 ∧ ((xrc σ897 q896 26 ∧ (KX q896 σ897.1)))))) ∧ (¬ (-1 : Int32) = (3 : Int32) → (((-1 : Int32) = (4 : Int32) → (xnn x1 fun b887 => xrc σ860 b887 1 ∧ xcallX (fun τ L LX => P_X2_flushes κ b887 τ L LX) σ860 (fun v888 σ889 => K v888 σ889.1) (fun q890 σ891 => κ 0 ≤ q890 ∧ ((xrc σ891 q890 26 ∧ (KX q890 σ891.1)))))) ∧ (¬ (-1 : Int32) = (4 : Int32) → (((-1 : Int32) = (5 : Int32) → (xgi σ860 a0 11 1 fun v880 => xgi σ860 a0 11 2 fun v881 => xnn x1 fun b882 => xrc σ860 b882 1 ∧ xcallX (fun τ L LX => P_X2_deviceWrites κ b882 v880 v881 τ L LX) σ860 (fun v883 σ884 => K v883 σ884.1) (fun q885 σ886 => κ 0 ≤ q885 ∧ ((xrc σ886 q885 26 ∧ (KX q885 σ886.1)))))) ∧ (¬ (-1 : Int32) = (5 : Int32) → (((-1 : Int32) = (6 : Int32) → (xgi σ860 a0 11 1 fun v874 => xnn x1 fun b875 => xrc σ860 b875 1 ∧ xcallX (fun τ L LX => P_X2_waits κ b875 v874 τ L LX) σ860 (fun v876 σ877 => K v876 σ877.1) (fun q878 σ879 => κ 0 ≤ q878 ∧ ((xrc σ879 q878 26 ∧ (KX q878 σ879.1)))))) ∧ (¬ (-1 : Int32) = (6 : Int32) → (((-1 : Int32) = (7 : Int32) → (xgi σ860 a0 11 1 fun v867 => xgi σ860 a0 11 2 fun v868 => xnn x1 fun b869 => xrc σ860 b869 1 ∧ xcallX (fun τ L LX => P_X2_shapes κ b869 v867 v868 τ L LX) σ860 (fun v870 σ871 => K v870 σ871.1) (fun q872 σ873 => κ 0 ≤ q872 ∧ ((xrc σ873 q872 26 ∧ (KX q872 σ873.1)))))) ∧ (¬ (-1 : Int32) = (7 : Int32) → (xgi σ860 a0 11 1 fun v861 => xnn x1 fun b862 => xrc σ860 b862 1 ∧ xcallX (fun τ L LX => P_X2_rules κ b862 v861 τ L LX) σ860 (fun v863 σ864 => K v863 σ864.1) (fun q865 σ866 => κ 0 ≤ q865 ∧ ((xrc σ866 q865 26 ∧ (KX q865 σ866.1))))))))))))))))))))))) ∧ (¬ v859 = 0 → ((((5 : Int32) = (0 : Int32) → (xgi σ860 a0 11 1 fun v967 => xnn x1 fun b968 => xrc σ860 b968 1 ∧ xcallX (fun τ L LX => P_X2_readsWord κ b968 v967 τ L LX) σ860 (fun v969 σ970 => K v969 σ970.1) (fun q971 σ972 => κ 0 ≤ q971 ∧ ((xrc σ972 q971 26 ∧ (KX q971 σ972.1)))))) ∧ (¬ (5 : Int32) = (0 : Int32) → (((5 : Int32) = (1 : Int32) → (xgi σ860 a0 11 1 fun v960 => xgi σ860 a0 11 2 fun v961 => xnn x1 fun b962 => xrc σ860 b962 1 ∧ xcallX (fun τ L LX => P_X2_writesWord κ b962 v960 v961 τ L LX) σ860 (fun v963 σ964 => K v963 σ964.1) (fun q965 σ966 => κ 0 ≤ q965 ∧ ((xrc σ966 q965 26 ∧ (KX q965 σ966.1)))))) ∧ (¬ (5 : Int32) = (1 : Int32) → (((5 : Int32) = (2 : Int32) → (xgi σ860 a0 11 1 fun v954 => xnn x1 fun b955 => xrc σ860 b955 1 ∧ xcallX (fun τ L LX => P_X2_pins κ b955 v954 τ L LX) σ860 (fun v956 σ957 => K v956 σ957.1) (fun q958 σ959 => κ 0 ≤ q958 ∧ ((xrc σ959 q958 26 ∧ (KX q958 σ959.1)))))) ∧ (¬ (5 : Int32) = (2 : Int32) → (((5 : Int32) = (3 : Int32) → (xgi σ860 a0 11 1 fun v948 => xnn x1 fun b949 => xrc σ860 b949 1 ∧ xcallX (fun τ L LX => P_X2_frees κ b949 v948 τ L LX) σ860 (fun v950 σ951 => K v950 σ951.1) (fun q952 σ953 => κ 0 ≤ q952 ∧ ((xrc σ953 q952 26 ∧ (KX q952 σ953.1)))))) ∧ (¬ (5 : Int32) = (3 : Int32) → (((5 : Int32) = (4 : Int32) → (xnn x1 fun b943 => xrc σ860 b943 1 ∧ xcallX (fun τ L LX => P_X2_flushes κ b943 τ L LX) σ860 (fun v944 σ945 => K v944 σ945.1) (fun q946 σ947 => κ 0 ≤ q946 ∧ ((xrc σ947 q946 26 ∧ (KX q946 σ947.1)))))) ∧ (¬ (5 : Int32) = (4 : Int32) → (((5 : Int32) = (5 : Int32) → (xgi σ860 a0 11 1 fun v936 => xgi σ860 a0 11 2 fun v937 => xnn x1 fun b938 => xrc σ860 b938 1 ∧ xcallX (fun τ L LX => P_X2_deviceWrites κ b938 v936 v937 τ L LX) σ860 (fun v939 σ940 => K v939 σ940.1) (fun q941 σ942 => κ 0 ≤ q941 ∧ ((xrc σ942 q941 26 ∧ (KX q941 σ942.1)))))) ∧ (¬ (5 : Int32) = (5 : Int32) → (((5 : Int32) = (6 : Int32) → (xgi σ860 a0 11 1 fun v930 => xnn x1 fun b931 => xrc σ860 b931 1 ∧ xcallX (fun τ L LX => P_X2_waits κ b931 v930 τ L LX) σ860 (fun v932 σ933 => K v932 σ933.1) (fun q934 σ935 => κ 0 ≤ q934 ∧ ((xrc σ935 q934 26 ∧ (KX q934 σ935.1)))))) ∧ (¬ (5 : Int32) = (6 : Int32) → (((5 : Int32) = (7 : Int32) → (xgi σ860 a0 11 1 fun v923 => xgi σ860 a0 11 2 fun v924 => xnn x1 fun b925 => xrc σ860 b925 1 ∧ xcallX (fun τ L LX => P_X2_shapes κ b925 v923 v924 τ L LX) σ860 (fun v926 σ927 => K v926 σ927.1) (fun q928 σ929 => κ 0 ≤ q928 ∧ ((xrc σ929 q928 26 ∧ (KX q928 σ929.1)))))) ∧ (¬ (5 : Int32) = (7 : Int32) → (xgi σ860 a0 11 1 fun v917 => xnn x1 fun b918 => xrc σ860 b918 1 ∧ xcallX (fun τ L LX => P_X2_rules κ b918 v917 τ L LX) σ860 (fun v919 σ920 => K v919 σ920.1) (fun q921 σ922 => κ 0 ≤ q921 ∧ ((xrc σ922 q921 26 ∧ (KX q921 σ922.1)))))))))))))))))))))))))) ∧ (¬ v3 = (-1335157162 : Int32) → ((v3 = (110997 : Int32) → (xrc σ4 b2 9 ∧ xcall (fun τ L => P_J14_equals κ b2 (some (κ 13)) τ L) σ4 fun v745 σ746 => ((v745 = 0 → ((((-1 : Int32) = (0 : Int32) → (xgi σ746 a0 11 1 fun v797 => xnn x1 fun b798 => xrc σ746 b798 1 ∧ xcallX (fun τ L LX => P_X2_readsWord κ b798 v797 τ L LX) σ746 (fun v799 σ800 => K v799 σ800.1) (fun q801 σ802 => κ 0 ≤ q801 ∧ ((xrc σ802 q801 26 ∧ (KX q801 σ802.1)))))) ∧ (¬ (-1 : Int32) = (0 : Int32) → (((-1 : Int32) = (1 : Int32) → (xgi σ746 a0 11 1 fun v790 => xgi σ746 a0 11 2 fun v791 => xnn x1 fun b792 => xrc σ746 b792 1 ∧ xcallX (fun τ L LX => P_X2_writesWord κ b792 v790 v791 τ L LX) σ746 (fun v793 σ794 => K v793 σ794.1) (fun q795 σ796 => κ 0 ≤ q795 ∧ ((xrc σ796 q795 26 ∧ (KX q795 σ796.1)))))) ∧ (¬ (-1 : Int32) = (1 : Int32) → (((-1 : Int32) = (2 : Int32) → (xgi σ746 a0 11 1 fun v784 => xnn x1 fun b785 => xrc σ746 b785 1 ∧ xcallX (fun τ L LX => P_X2_pins κ b785 v784 τ L LX) σ746 (fun v786 σ787 => K v786 σ787.1) (fun q788 σ789 => κ 0 ≤ q788 ∧ ((xrc σ789 q788 26 ∧ (KX q788 σ789.1)))))) ∧ (¬ (-1 : Int32) = (2 : Int32) → (((-1 : Int32) = (3 : Int32) → (xgi σ746 a0 11 1 fun v778 => xnn x1 fun b779 => xrc σ746 b779 1 ∧ xcallX (fun τ L LX => P_X2_frees κ b779 v778 τ L LX) σ746 (fun v780 σ781 => K v780 σ781.1) (fun q782 σ783 => κ 0 ≤ q782 ∧ ((xrc σ783 q782 26 ∧ (KX q782 σ783.1)))))) ∧ (¬ (-1 : Int32) = (3 : Int32) → (((-1 : Int32) = (4 : Int32) → (xnn x1 fun b773 => xrc σ746 b773 1 ∧ xcallX (fun τ L LX => P_X2_flushes κ b773 τ L LX) σ746 (fun v774 σ775 => K v774 σ775.1) (fun q776 σ777 => κ 0 ≤ q776 ∧ ((xrc σ777 q776 26 ∧ (KX q776 σ777.1)))))) ∧ (¬ (-1 : Int32) = (4 : Int32) → (((-1 : Int32) = (5 : Int32) → (xgi σ746 a0 11 1 fun v766 => xgi σ746 a0 11 2 fun v767 => xnn x1 fun b768 => xrc σ746 b768 1 ∧ xcallX (fun τ L LX => P_X2_deviceWrites κ b768 v766 v767 τ L LX) σ746 (fun v769 σ770 => K v769 σ770.1) (fun q771 σ772 => κ 0 ≤ q771 ∧ ((xrc σ772 q771 26 ∧ (KX q771 σ772.1)))))) ∧ (¬ (-1 : Int32) = (5 : Int32) → (((-1 : Int32) = (6 : Int32) → (xgi σ746 a0 11 1 fun v760 => xnn x1 fun b761 => xrc σ746 b761 1 ∧ xcallX (fun τ L LX => P_X2_waits κ b761 v760 τ L LX) σ746 (fun v762 σ763 => K v762 σ763.1) (fun q764 σ765 => κ 0 ≤ q764 ∧ ((xrc σ765 q764 26 ∧ (KX q764 σ765.1)))))) ∧ (¬ (-1 : Int32) = (6 : Int32) → (((-1 : Int32) = (7 : Int32) → (xgi σ746 a0 11 1 fun v753 => xgi σ746 a0 11 2 fun v754 => xnn x1 fun b755 => xrc σ746 b755 1 ∧ xcallX (fun τ L LX => P_X2_shapes κ b755 v753 v754 τ L LX) σ746 (fun v756 σ757 => K v756 σ757.1) (fun q758 σ759 => κ 0 ≤ q758 ∧ ((xrc σ759 q758 26 ∧ (KX q758 σ759.1)))))) ∧ (¬ (-1 : Int32) = (7 : Int32) → (xgi σ746 a0 11 1 fun v747 => xnn x1 fun b748 => xrc σ746 b748 1 ∧ xcallX (fun τ L LX => P_X2_rules κ b748 v747 τ L LX) σ746 (fun v749 σ750 => K v749 σ750.1) (fun q751 σ752 => κ 0 ≤ q751 ∧ ((xrc σ752 q751 26 ∧ (KX q751 σ752.1))))))))))))))))))))))) ∧ (¬ v745 = 0 → ((((2 : Int32) = (0 : Int32) → (xgi σ746 a0 11 1 fun v853 => xnn x1 fun b854 => xrc σ746 b854 1 ∧ xcallX (fun τ L LX => P_X2_readsWord κ b854 v853 τ L LX) σ746 (fun v855 σ856 => K v855 σ856.1) (fun q857 σ858 => κ 0 ≤ q857 ∧ ((xrc σ858 q857 26 ∧ (KX q857 σ858.1)))))) ∧ (¬ (2 : Int32) = (0 : Int32) → (((2 : Int32) = (1 : Int32) → (xgi σ746 a0 11 1 fun v846 => xgi σ746 a0 11 2 fun v847 => xnn x1 fun b848 => xrc σ746 b848 1 ∧ xcallX (fun τ L LX => P_X2_writesWord κ b848 v846 v847 τ L LX) σ746 (fun v849 σ850 => K v849 σ850.1) (fun q851 σ852 => κ 0 ≤ q851 ∧ ((xrc σ852 q851 26 ∧ (KX q851 σ852.1)))))) ∧ (¬ (2 : Int32) = (1 : Int32) → (((2 : Int32) = (2 : Int32) → (xgi σ746 a0 11 1 fun v840 => xnn x1 fun b841 => xrc σ746 b841 1 ∧ xcallX (fun τ L LX => P_X2_pins κ b841 v840 τ L LX) σ746 (fun v842 σ843 => K v842 σ843.1) (fun q844 σ845 => κ 0 ≤ q844 ∧ ((xrc σ845 q844 26 ∧ (KX q844 σ845.1)))))) ∧ (¬ (2 : Int32) = (2 : Int32) → (((2 : Int32) = (3 : Int32) → (xgi σ746 a0 11 1 fun v834 => xnn x1 fun b835 => xrc σ746 b835 1 ∧ xcallX (fun τ L LX => P_X2_frees κ b835 v834 τ L LX) σ746 (fun v836 σ837 => K v836 σ837.1) (fun q838 σ839 => κ 0 ≤ q838 ∧ ((xrc σ839 q838 26 ∧ (KX q838 σ839.1)))))) ∧ (¬ (2 : Int32) = (3 : Int32) → (((2 : Int32) = (4 : Int32) → (xnn x1 fun b829 => xrc σ746 b829 1 ∧ xcallX (fun τ L LX => P_X2_flushes κ b829 τ L LX) σ746 (fun v830 σ831 => K v830 σ831.1) (fun q832 σ833 => κ 0 ≤ q832 ∧ ((xrc σ833 q832 26 ∧ (KX q832 σ833.1)))))) ∧ (¬ (2 : Int32) = (4 : Int32) → (((2 : Int32) = (5 : Int32) → (xgi σ746 a0 11 1 fun v822 => xgi σ746 a0 11 2 fun v823 => xnn x1 fun b824 => xrc σ746 b824 1 ∧ xcallX (fun τ L LX => P_X2_deviceWrites κ b824 v822 v823 τ L LX) σ746 (fun v825 σ826 => K v825 σ826.1) (fun q827 σ828 => κ 0 ≤ q827 ∧ ((xrc σ828 q827 26 ∧ (KX q827 σ828.1)))))) ∧ (¬ (2 : Int32) = (5 : Int32) → (((2 : Int32) = (6 : Int32) → (xgi σ746 a0 11 1 fun v816 => xnn x1 fun b817 => xrc σ746 b817 1 ∧ xcallX (fun τ L LX => P_X2_waits κ b817 v816 τ L LX) σ746 (fun v818 σ819 => K v818 σ819.1) (fun q820 σ821 => κ 0 ≤ q820 ∧ ((xrc σ821 q820 26 ∧ (KX q820 σ821.1)))))) ∧ (¬ (2 : Int32) = (6 : Int32) → (((2 : Int32) = (7 : Int32) → (xgi σ746 a0 11 1 fun v809 => xgi σ746 a0 11 2 fun v810 => xnn x1 fun b811 => xrc σ746 b811 1 ∧ xcallX (fun τ L LX => P_X2_shapes κ b811 v809 v810 τ L LX) σ746 (fun v812 σ813 => K v812 σ813.1) (fun q814 σ815 => κ 0 ≤ q814 ∧ ((xrc σ815 q814 26 ∧ (KX q814 σ815.1)))))) ∧ (¬ (2 : Int32) = (7 : Int32) → (xgi σ746 a0 11 1 fun v803 => xnn x1 fun b804 => xrc σ746 b804 1 ∧ xcallX (fun τ L LX => P_X2_rules κ b804 v803 τ L LX) σ746 (fun v805 σ806 => K v805 σ806.1) (fun q807 σ808 => κ 0 ≤ q807 ∧ ((xrc σ808 q807 26 ∧ (KX q807 σ808.1)))))))))))))))))))))))))) ∧ (¬ v3 = (110997 : Int32) → ((v3 = (3151468 : Int32) → (xrc σ4 b2 9 ∧ xcall (fun τ L => P_J14_equals κ b2 (some (κ 14)) τ L) σ4 fun v631 σ632 => ((v631 = 0 → ((((-1 : Int32) = (0 : Int32) → (xgi σ632 a0 11 1 fun v683 => xnn x1 fun b684 => xrc σ632 b684 1 ∧ xcallX (fun τ L LX => P_X2_readsWord κ b684 v683 τ L LX) σ632 (fun v685 σ686 => K v685 σ686.1) (fun q687 σ688 => κ 0 ≤ q687 ∧ ((xrc σ688 q687 26 ∧ (KX q687 σ688.1)))))) ∧ (¬ (-1 : Int32) = (0 : Int32) → (((-1 : Int32) = (1 : Int32) → (xgi σ632 a0 11 1 fun v676 => xgi σ632 a0 11 2 fun v677 => xnn x1 fun b678 => xrc σ632 b678 1 ∧ xcallX (fun τ L LX => P_X2_writesWord κ b678 v676 v677 τ L LX) σ632 (fun v679 σ680 => K v679 σ680.1) (fun q681 σ682 => κ 0 ≤ q681 ∧ ((xrc σ682 q681 26 ∧ (KX q681 σ682.1)))))) ∧ (¬ (-1 : Int32) = (1 : Int32) → (((-1 : Int32) = (2 : Int32) → (xgi σ632 a0 11 1 fun v670 => xnn x1 fun b671 => xrc σ632 b671 1 ∧ xcallX (fun τ L LX => P_X2_pins κ b671 v670 τ L LX) σ632 (fun v672 σ673 => K v672 σ673.1) (fun q674 σ675 => κ 0 ≤ q674 ∧ ((xrc σ675 q674 26 ∧ (KX q674 σ675.1)))))) ∧ (¬ (-1 : Int32) = (2 : Int32) → (((-1 : Int32) = (3 : Int32) → (xgi σ632 a0 11 1 fun v664 => xnn x1 fun b665 => xrc σ632 b665 1 ∧ xcallX (fun τ L LX => P_X2_frees κ b665 v664 τ L LX) σ632 (fun v666 σ667 => K v666 σ667.1) (fun q668 σ669 => κ 0 ≤ q668 ∧ ((xrc σ669 q668 26 ∧ (KX q668 σ669.1)))))) ∧ (¬ (-1 : Int32) = (3 : Int32) → (((-1 : Int32) = (4 : Int32) → (xnn x1 fun b659 => xrc σ632 b659 1 ∧ xcallX (fun τ L LX => P_X2_flushes κ b659 τ L LX) σ632 (fun v660 σ661 => K v660 σ661.1) (fun q662 σ663 => κ 0 ≤ q662 ∧ ((xrc σ663 q662 26 ∧ (KX q662 σ663.1)))))) ∧ (¬ (-1 : Int32) = (4 : Int32) → (((-1 : Int32) = (5 : Int32) → (xgi σ632 a0 11 1 fun v652 => xgi σ632 a0 11 2 fun v653 => xnn x1 fun b654 => xrc σ632 b654 1 ∧ xcallX (fun τ L LX => P_X2_deviceWrites κ b654 v652 v653 τ L LX) σ632 (fun v655 σ656 => K v655 σ656.1) (fun q657 σ658 => κ 0 ≤ q657 ∧ ((xrc σ658 q657 26 ∧ (KX q657 σ658.1)))))) ∧ (¬ (-1 : Int32) = (5 : Int32) → (((-1 : Int32) = (6 : Int32) → (xgi σ632 a0 11 1 fun v646 => xnn x1 fun b647 => xrc σ632 b647 1 ∧ xcallX (fun τ L LX => P_X2_waits κ b647 v646 τ L LX) σ632 (fun v648 σ649 => K v648 σ649.1) (fun q650 σ651 => κ 0 ≤ q650 ∧ ((xrc σ651 q650 26 ∧ (KX q650 σ651.1)))))) ∧ (¬ (-1 : Int32) = (6 : Int32) → (((-1 : Int32) = (7 : Int32) → (xgi σ632 a0 11 1 fun v639 => xgi σ632 a0 11 2 fun v640 => xnn x1 fun b641 => xrc σ632 b641 1 ∧ xcallX (fun τ L LX => P_X2_shapes κ b641 v639 v640 τ L LX) σ632 (fun v642 σ643 => K v642 σ643.1) (fun q644 σ645 => κ 0 ≤ q644 ∧ ((xrc σ645 q644 26 ∧ (KX q644 σ645.1)))))) ∧ (¬ (-1 : Int32) = (7 : Int32) → (xgi σ632 a0 11 1 fun v633 => xnn x1 fun b634 => xrc σ632 b634 1 ∧ xcallX (fun τ L LX => P_X2_rules κ b634 v633 τ L LX) σ632 (fun v635 σ636 => K v635 σ636.1) (fun q637 σ638 => κ 0 ≤ q637 ∧ ((xrc σ638 q637 26 ∧ (KX q637 σ638.1))))))))))))))))))))))) ∧ (¬ v631 = 0 → ((((3 : Int32) = (0 : Int32) → (xgi σ632 a0 11 1 fun v739 => xnn x1 fun b740 => xrc σ632 b740 1 ∧ xcallX (fun τ L LX => P_X2_readsWord κ b740 v739 τ L LX) σ632 (fun v741 σ742 => K v741 σ742.1) (fun q743 σ744 => κ 0 ≤ q743 ∧ ((xrc σ744 q743 26 ∧ (KX q743 σ744.1)))))) ∧ (¬ (3 : Int32) = (0 : Int32) → (((3 : Int32) = (1 : Int32) → (xgi σ632 a0 11 1 fun v732 => xgi σ632 a0 11 2 fun v733 => xnn x1 fun b734 => xrc σ632 b734 1 ∧ xcallX (fun τ L LX => P_X2_writesWord κ b734 v732 v733 τ L LX) σ632 (fun v735 σ736 => K v735 σ736.1) (fun q737 σ738 => κ 0 ≤ q737 ∧ ((xrc σ738 q737 26 ∧ (KX q737 σ738.1)))))) ∧ (¬ (3 : Int32) = (1 : Int32) → (((3 : Int32) = (2 : Int32) → (xgi σ632 a0 11 1 fun v726 => xnn x1 fun b727 => xrc σ632 b727 1 ∧ xcallX (fun τ L LX => P_X2_pins κ b727 v726 τ L LX) σ632 (fun v728 σ729 => K v728 σ729.1) (fun q730 σ731 => κ 0 ≤ q730 ∧ ((xrc σ731 q730 26 ∧ (KX q730 σ731.1)))))) ∧ (¬ (3 : Int32) = (2 : Int32) → (((3 : Int32) = (3 : Int32) → (xgi σ632 a0 11 1 fun v720 => xnn x1 fun b721 => xrc σ632 b721 1 ∧ xcallX (fun τ L LX => P_X2_frees κ b721 v720 τ L LX) σ632 (fun v722 σ723 => K v722 σ723.1) (fun q724 σ725 => κ 0 ≤ q724 ∧ ((xrc σ725 q724 26 ∧ (KX q724 σ725.1)))))) ∧ (¬ (3 : Int32) = (3 : Int32) → (((3 : Int32) = (4 : Int32) → (xnn x1 fun b715 => xrc σ632 b715 1 ∧ xcallX (fun τ L LX => P_X2_flushes κ b715 τ L LX) σ632 (fun v716 σ717 => K v716 σ717.1) (fun q718 σ719 => κ 0 ≤ q718 ∧ ((xrc σ719 q718 26 ∧ (KX q718 σ719.1)))))) ∧ (¬ (3 : Int32) = (4 : Int32) → (((3 : Int32) = (5 : Int32) → (xgi σ632 a0 11 1 fun v708 => xgi σ632 a0 11 2 fun v709 => xnn x1 fun b710 => xrc σ632 b710 1 ∧ xcallX (fun τ L LX => P_X2_deviceWrites κ b710 v708 v709 τ L LX) σ632 (fun v711 σ712 => K v711 σ712.1) (fun q713 σ714 => κ 0 ≤ q713 ∧ ((xrc σ714 q713 26 ∧ (KX q713 σ714.1)))))) ∧ (¬ (3 : Int32) = (5 : Int32) → (((3 : Int32) = (6 : Int32) → (xgi σ632 a0 11 1 fun v702 => xnn x1 fun b703 => xrc σ632 b703 1 ∧ xcallX (fun τ L LX => P_X2_waits κ b703 v702 τ L LX) σ632 (fun v704 σ705 => K v704 σ705.1) (fun q706 σ707 => κ 0 ≤ q706 ∧ ((xrc σ707 q706 26 ∧ (KX q706 σ707.1)))))) ∧ (¬ (3 : Int32) = (6 : Int32) → (((3 : Int32) = (7 : Int32) → (xgi σ632 a0 11 1 fun v695 => xgi σ632 a0 11 2 fun v696 => xnn x1 fun b697 => xrc σ632 b697 1 ∧ xcallX (fun τ L LX => P_X2_shapes κ b697 v695 v696 τ L LX) σ632 (fun v698 σ699 => K v698 σ699.1) (fun q700 σ701 => κ 0 ≤ q700 ∧ ((xrc σ701 q700 26 ∧ (KX q700 σ701.1)))))) ∧ (¬ (3 : Int32) = (7 : Int32) → (xgi σ632 a0 11 1 fun v689 => xnn x1 fun b690 => xrc σ632 b690 1 ∧ xcallX (fun τ L LX => P_X2_rules κ b690 v689 τ L LX) σ632 (fun v691 σ692 => K v691 σ692.1) (fun q693 σ694 => κ 0 ≤ q693 ∧ ((xrc σ694 q693 26 ∧ (KX q693 σ694.1)))))))))))))))))))))))))) ∧ (¬ v3 = (3151468 : Int32) → ((v3 = (3496342 : Int32) → (xrc σ4 b2 9 ∧ xcall (fun τ L => P_J14_equals κ b2 (some (κ 11)) τ L) σ4 fun v517 σ518 => ((v517 = 0 → ((((-1 : Int32) = (0 : Int32) → (xgi σ518 a0 11 1 fun v569 => xnn x1 fun b570 => xrc σ518 b570 1 ∧ xcallX (fun τ L LX => P_X2_readsWord κ b570 v569 τ L LX) σ518 (fun v571 σ572 => K v571 σ572.1) (fun q573 σ574 => κ 0 ≤ q573 ∧ ((xrc σ574 q573 26 ∧ (KX q573 σ574.1)))))) ∧ (¬ (-1 : Int32) = (0 : Int32) → (((-1 : Int32) = (1 : Int32) → (xgi σ518 a0 11 1 fun v562 => xgi σ518 a0 11 2 fun v563 => xnn x1 fun b564 => xrc σ518 b564 1 ∧ xcallX (fun τ L LX => P_X2_writesWord κ b564 v562 v563 τ L LX) σ518 (fun v565 σ566 => K v565 σ566.1) (fun q567 σ568 => κ 0 ≤ q567 ∧ ((xrc σ568 q567 26 ∧ (KX q567 σ568.1)))))) ∧ (¬ (-1 : Int32) = (1 : Int32) → (((-1 : Int32) = (2 : Int32) → (xgi σ518 a0 11 1 fun v556 => xnn x1 fun b557 => xrc σ518 b557 1 ∧ xcallX (fun τ L LX => P_X2_pins κ b557 v556 τ L LX) σ518 (fun v558 σ559 => K v558 σ559.1) (fun q560 σ561 => κ 0 ≤ q560 ∧ ((xrc σ561 q560 26 ∧ (KX q560 σ561.1)))))) ∧ (¬ (-1 : Int32) = (2 : Int32) → (((-1 : Int32) = (3 : Int32) → (xgi σ518 a0 11 1 fun v550 => xnn x1 fun b551 => xrc σ518 b551 1 ∧ xcallX (fun τ L LX => P_X2_frees κ b551 v550 τ L LX) σ518 (fun v552 σ553 => K v552 σ553.1) (fun q554 σ555 => κ 0 ≤ q554 ∧ ((xrc σ555 q554 26 ∧ (KX q554 σ555.1)))))) ∧ (¬ (-1 : Int32) = (3 : Int32) → (((-1 : Int32) = (4 : Int32) → (xnn x1 fun b545 => xrc σ518 b545 1 ∧ xcallX (fun τ L LX => P_X2_flushes κ b545 τ L LX) σ518 (fun v546 σ547 => K v546 σ547.1) (fun q548 σ549 => κ 0 ≤ q548 ∧ ((xrc σ549 q548 26 ∧ (KX q548 σ549.1)))))) ∧ (¬ (-1 : Int32) = (4 : Int32) → (((-1 : Int32) = (5 : Int32) → (xgi σ518 a0 11 1 fun v538 => xgi σ518 a0 11 2 fun v539 => xnn x1 fun b540 => xrc σ518 b540 1 ∧ xcallX (fun τ L LX => P_X2_deviceWrites κ b540 v538 v539 τ L LX) σ518 (fun v541 σ542 => K v541 σ542.1) (fun q543 σ544 => κ 0 ≤ q543 ∧ ((xrc σ544 q543 26 ∧ (KX q543 σ544.1)))))) ∧ (¬ (-1 : Int32) = (5 : Int32) → (((-1 : Int32) = (6 : Int32) → (xgi σ518 a0 11 1 fun v532 => xnn x1 fun b533 => xrc σ518 b533 1 ∧ xcallX (fun τ L LX => P_X2_waits κ b533 v532 τ L LX) σ518 (fun v534 σ535 => K v534 σ535.1) (fun q536 σ537 => κ 0 ≤ q536 ∧ ((xrc σ537 q536 26 ∧ (KX q536 σ537.1)))))) ∧ (¬ (-1 : Int32) = (6 : Int32) → (((-1 : Int32) = (7 : Int32) → (xgi σ518 a0 11 1 fun v525 => xgi σ518 a0 11 2 fun v526 => xnn x1 fun b527 => xrc σ518 b527 1 ∧ xcallX (fun τ L LX => P_X2_shapes κ b527 v525 v526 τ L LX) σ518 (fun v528 σ529 => K v528 σ529.1) (fun q530 σ531 => κ 0 ≤ q530 ∧ ((xrc σ531 q530 26 ∧ (KX q530 σ531.1)))))) ∧ (¬ (-1 : Int32) = (7 : Int32) → (xgi σ518 a0 11 1 fun v519 => xnn x1 fun b520 => xrc σ518 b520 1 ∧ xcallX (fun τ L LX => P_X2_rules κ b520 v519 τ L LX) σ518 (fun v521 σ522 => K v521 σ522.1) (fun q523 σ524 => κ 0 ≤ q523 ∧ ((xrc σ524 q523 26 ∧ (KX q523 σ524.1))))))))))))))))))))))) ∧ (¬ v517 = 0 → ((((0 : Int32) = (0 : Int32) → (xgi σ518 a0 11 1 fun v625 => xnn x1 fun b626 => xrc σ518 b626 1 ∧ xcallX (fun τ L LX => P_X2_readsWord κ b626 v625 τ L LX) σ518 (fun v627 σ628 => K v627 σ628.1) (fun q629 σ630 => κ 0 ≤ q629 ∧ ((xrc σ630 q629 26 ∧ (KX q629 σ630.1)))))) ∧ (¬ (0 : Int32) = (0 : Int32) → (((0 : Int32) = (1 : Int32) → (xgi σ518 a0 11 1 fun v618 => xgi σ518 a0 11 2 fun v619 => xnn x1 fun b620 => xrc σ518 b620 1 ∧ xcallX (fun τ L LX => P_X2_writesWord κ b620 v618 v619 τ L LX) σ518 (fun v621 σ622 => K v621 σ622.1) (fun q623 σ624 => κ 0 ≤ q623 ∧ ((xrc σ624 q623 26 ∧ (KX q623 σ624.1)))))) ∧ (¬ (0 : Int32) = (1 : Int32) → (((0 : Int32) = (2 : Int32) → (xgi σ518 a0 11 1 fun v612 => xnn x1 fun b613 => xrc σ518 b613 1 ∧ xcallX (fun τ L LX => P_X2_pins κ b613 v612 τ L LX) σ518 (fun v614 σ615 => K v614 σ615.1) (fun q616 σ617 => κ 0 ≤ q616 ∧ ((xrc σ617 q616 26 ∧ (KX q616 σ617.1)))))) ∧ (¬ (0 : Int32) = (2 : Int32) → (((0 : Int32) = (3 : Int32) → (xgi σ518 a0 11 1 fun v606 => xnn x1 fun b607 => xrc σ518 b607 1 ∧ xcallX (fun τ L LX => P_X2_frees κ b607 v606 τ L LX) σ518 (fun v608 σ609 => K v608 σ609.1) (fun q610 σ611 => κ 0 ≤ q610 ∧ ((xrc σ611 q610 26 ∧ (KX q610 σ611.1)))))) ∧ (¬ (0 : Int32) = (3 : Int32) → (((0 : Int32) = (4 : Int32) → (xnn x1 fun b601 => xrc σ518 b601 1 ∧ xcallX (fun τ L LX => P_X2_flushes κ b601 τ L LX) σ518 (fun v602 σ603 => K v602 σ603.1) (fun q604 σ605 => κ 0 ≤ q604 ∧ ((xrc σ605 q604 26 ∧ (KX q604 σ605.1)))))) ∧ (¬ (0 : Int32) = (4 : Int32) → (((0 : Int32) = (5 : Int32) → (xgi σ518 a0 11 1 fun v594 => xgi σ518 a0 11 2 fun v595 => xnn x1 fun b596 => xrc σ518 b596 1 ∧ xcallX (fun τ L LX => P_X2_deviceWrites κ b596 v594 v595 τ L LX) σ518 (fun v597 σ598 => K v597 σ598.1) (fun q599 σ600 => κ 0 ≤ q599 ∧ ((xrc σ600 q599 26 ∧ (KX q599 σ600.1)))))) ∧ (¬ (0 : Int32) = (5 : Int32) → (((0 : Int32) = (6 : Int32) → (xgi σ518 a0 11 1 fun v588 => xnn x1 fun b589 => xrc σ518 b589 1 ∧ xcallX (fun τ L LX => P_X2_waits κ b589 v588 τ L LX) σ518 (fun v590 σ591 => K v590 σ591.1) (fun q592 σ593 => κ 0 ≤ q592 ∧ ((xrc σ593 q592 26 ∧ (KX q592 σ593.1)))))) ∧ (¬ (0 : Int32) = (6 : Int32) → (((0 : Int32) = (7 : Int32) → (xgi σ518 a0 11 1 fun v581 => xgi σ518 a0 11 2 fun v582 => xnn x1 fun b583 => xrc σ518 b583 1 ∧ xcallX (fun τ L LX => P_X2_shapes κ b583 v581 v582 τ L LX) σ518 (fun v584 σ585 => K v584 σ585.1) (fun q586 σ587 => κ 0 ≤ q586 ∧ ((xrc σ587 q586 26 ∧ (KX q586 σ587.1)))))) ∧ (¬ (0 : Int32) = (7 : Int32) → (xgi σ518 a0 11 1 fun v575 => xnn x1 fun b576 => xrc σ518 b576 1 ∧ xcallX (fun τ L LX => P_X2_rules κ b576 v575 τ L LX) σ518 (fun v577 σ578 => K v577 σ578.1) (fun q579 σ580 => κ 0 ≤ q579 ∧ ((xrc σ580 q579 26 ∧ (KX q579 σ580.1)))))))))))))))))))))))))) ∧ (¬ v3 = (3496342 : Int32) → ((v3 = (97532676 : Int32) → (xrc σ4 b2 9 ∧ xcall (fun τ L => P_J14_equals κ b2 (some (κ 15)) τ L) σ4 fun v403 σ404 => ((v403 = 0 → ((((-1 : Int32) = (0 : Int32) → (xgi σ404 a0 11 1 fun v455 => xnn x1 fun b456 => xrc σ404 b456 1 ∧ xcallX (fun τ L LX => P_X2_readsWord κ b456 v455 τ L LX) σ404 (fun v457 σ458 => K v457 σ458.1) (fun q459 σ460 => κ 0 ≤ q459 ∧ ((xrc σ460 q459 26 ∧ (KX q459 σ460.1)))))) ∧ (¬ (-1 : Int32) = (0 : Int32) → (((-1 : Int32) = (1 : Int32) → (xgi σ404 a0 11 1 fun v448 => xgi σ404 a0 11 2 fun v449 => xnn x1 fun b450 => xrc σ404 b450 1 ∧ xcallX (fun τ L LX => P_X2_writesWord κ b450 v448 v449 τ L LX) σ404 (fun v451 σ452 => K v451 σ452.1) (fun q453 σ454 => κ 0 ≤ q453 ∧ ((xrc σ454 q453 26 ∧ (KX q453 σ454.1)))))) ∧ (¬ (-1 : Int32) = (1 : Int32) → (((-1 : Int32) = (2 : Int32) → (xgi σ404 a0 11 1 fun v442 => xnn x1 fun b443 => xrc σ404 b443 1 ∧ xcallX (fun τ L LX => P_X2_pins κ b443 v442 τ L LX) σ404 (fun v444 σ445 => K v444 σ445.1) (fun q446 σ447 => κ 0 ≤ q446 ∧ ((xrc σ447 q446 26 ∧ (KX q446 σ447.1)))))) ∧ (¬ (-1 : Int32) = (2 : Int32) → (((-1 : Int32) = (3 : Int32) → (xgi σ404 a0 11 1 fun v436 => xnn x1 fun b437 => xrc σ404 b437 1 ∧ xcallX (fun τ L LX => P_X2_frees κ b437 v436 τ L LX) σ404 (fun v438 σ439 => K v438 σ439.1) (fun q440 σ441 => κ 0 ≤ q440 ∧ ((xrc σ441 q440 26 ∧ (KX q440 σ441.1)))))) ∧ (¬ (-1 : Int32) = (3 : Int32) → (((-1 : Int32) = (4 : Int32) → (xnn x1 fun b431 => xrc σ404 b431 1 ∧ xcallX (fun τ L LX => P_X2_flushes κ b431 τ L LX) σ404 (fun v432 σ433 => K v432 σ433.1) (fun q434 σ435 => κ 0 ≤ q434 ∧ ((xrc σ435 q434 26 ∧ (KX q434 σ435.1)))))) ∧ (¬ (-1 : Int32) = (4 : Int32) → (((-1 : Int32) = (5 : Int32) → (xgi σ404 a0 11 1 fun v424 => xgi σ404 a0 11 2 fun v425 => xnn x1 fun b426 => xrc σ404 b426 1 ∧ xcallX (fun τ L LX => P_X2_deviceWrites κ b426 v424 v425 τ L LX) σ404 (fun v427 σ428 => K v427 σ428.1) (fun q429 σ430 => κ 0 ≤ q429 ∧ ((xrc σ430 q429 26 ∧ (KX q429 σ430.1)))))) ∧ (¬ (-1 : Int32) = (5 : Int32) → (((-1 : Int32) = (6 : Int32) → (xgi σ404 a0 11 1 fun v418 => xnn x1 fun b419 => xrc σ404 b419 1 ∧ xcallX (fun τ L LX => P_X2_waits κ b419 v418 τ L LX) σ404 (fun v420 σ421 => K v420 σ421.1) (fun q422 σ423 => κ 0 ≤ q422 ∧ ((xrc σ423 q422 26 ∧ (KX q422 σ423.1)))))) ∧ (¬ (-1 : Int32) = (6 : Int32) → (((-1 : Int32) = (7 : Int32) → (xgi σ404 a0 11 1 fun v411 => xgi σ404 a0 11 2 fun v412 => xnn x1 fun b413 => xrc σ404 b413 1 ∧ xcallX (fun τ L LX => P_X2_shapes κ b413 v411 v412 τ L LX) σ404 (fun v414 σ415 => K v414 σ415.1) (fun q416 σ417 => κ 0 ≤ q416 ∧ ((xrc σ417 q416 26 ∧ (KX q416 σ417.1)))))) ∧ (¬ (-1 : Int32) = (7 : Int32) → (xgi σ404 a0 11 1 fun v405 => xnn x1 fun b406 => xrc σ404 b406 1 ∧ xcallX (fun τ L LX => P_X2_rules κ b406 v405 τ L LX) σ404 (fun v407 σ408 => K v407 σ408.1) (fun q409 σ410 => κ 0 ≤ q409 ∧ ((xrc σ410 q409 26 ∧ (KX q409 σ410.1))))))))))))))))))))))) ∧ (¬ v403 = 0 → ((((4 : Int32) = (0 : Int32) → (xgi σ404 a0 11 1 fun v511 => xnn x1 fun b512 => xrc σ404 b512 1 ∧ xcallX (fun τ L LX => P_X2_readsWord κ b512 v511 τ L LX) σ404 (fun v513 σ514 => K v513 σ514.1) (fun q515 σ516 => κ 0 ≤ q515 ∧ ((xrc σ516 q515 26 ∧ (KX q515 σ516.1)))))) ∧ (¬ (4 : Int32) = (0 : Int32) → (((4 : Int32) = (1 : Int32) → (xgi σ404 a0 11 1 fun v504 => xgi σ404 a0 11 2 fun v505 => xnn x1 fun b506 => xrc σ404 b506 1 ∧ xcallX (fun τ L LX => P_X2_writesWord κ b506 v504 v505 τ L LX) σ404 (fun v507 σ508 => K v507 σ508.1) (fun q509 σ510 => κ 0 ≤ q509 ∧ ((xrc σ510 q509 26 ∧ (KX q509 σ510.1)))))) ∧ (¬ (4 : Int32) = (1 : Int32) → (((4 : Int32) = (2 : Int32) → (xgi σ404 a0 11 1 fun v498 => xnn x1 fun b499 => xrc σ404 b499 1 ∧ xcallX (fun τ L LX => P_X2_pins κ b499 v498 τ L LX) σ404 (fun v500 σ501 => K v500 σ501.1) (fun q502 σ503 => κ 0 ≤ q502 ∧ ((xrc σ503 q502 26 ∧ (KX q502 σ503.1)))))) ∧ (¬ (4 : Int32) = (2 : Int32) → (((4 : Int32) = (3 : Int32) → (xgi σ404 a0 11 1 fun v492 => xnn x1 fun b493 => xrc σ404 b493 1 ∧ xcallX (fun τ L LX => P_X2_frees κ b493 v492 τ L LX) σ404 (fun v494 σ495 => K v494 σ495.1) (fun q496 σ497 => κ 0 ≤ q496 ∧ ((xrc σ497 q496 26 ∧ (KX q496 σ497.1)))))) ∧ (¬ (4 : Int32) = (3 : Int32) → (((4 : Int32) = (4 : Int32) → (xnn x1 fun b487 => xrc σ404 b487 1 ∧ xcallX (fun τ L LX => P_X2_flushes κ b487 τ L LX) σ404 (fun v488 σ489 => K v488 σ489.1) (fun q490 σ491 => κ 0 ≤ q490 ∧ ((xrc σ491 q490 26 ∧ (KX q490 σ491.1)))))) ∧ (¬ (4 : Int32) = (4 : Int32) → (((4 : Int32) = (5 : Int32) → (xgi σ404 a0 11 1 fun v480 => xgi σ404 a0 11 2 fun v481 => xnn x1 fun b482 => xrc σ404 b482 1 ∧ xcallX (fun τ L LX => P_X2_deviceWrites κ b482 v480 v481 τ L LX) σ404 (fun v483 σ484 => K v483 σ484.1) (fun q485 σ486 => κ 0 ≤ q485 ∧ ((xrc σ486 q485 26 ∧ (KX q485 σ486.1)))))) ∧ (¬ (4 : Int32) = (5 : Int32) → (((4 : Int32) = (6 : Int32) → (xgi σ404 a0 11 1 fun v474 => xnn x1 fun b475 => xrc σ404 b475 1 ∧ xcallX (fun τ L LX => P_X2_waits κ b475 v474 τ L LX) σ404 (fun v476 σ477 => K v476 σ477.1) (fun q478 σ479 => κ 0 ≤ q478 ∧ ((xrc σ479 q478 26 ∧ (KX q478 σ479.1)))))) ∧ (¬ (4 : Int32) = (6 : Int32) → (((4 : Int32) = (7 : Int32) → (xgi σ404 a0 11 1 fun v467 => xgi σ404 a0 11 2 fun v468 => xnn x1 fun b469 => xrc σ404 b469 1 ∧ xcallX (fun τ L LX => P_X2_shapes κ b469 v467 v468 τ L LX) σ404 (fun v470 σ471 => K v470 σ471.1) (fun q472 σ473 => κ 0 ≤ q472 ∧ ((xrc σ473 q472 26 ∧ (KX q472 σ473.1)))))) ∧ (¬ (4 : Int32) = (7 : Int32) → (xgi σ404 a0 11 1 fun v461 => xnn x1 fun b462 => xrc σ404 b462 1 ∧ xcallX (fun τ L LX => P_X2_rules κ b462 v461 τ L LX) σ404 (fun v463 σ464 => K v463 σ464.1) (fun q465 σ466 => κ 0 ≤ q465 ∧ ((xrc σ466 q465 26 ∧ (KX q465 σ466.1)))))))))))))))))))))))))) ∧ (¬ v3 = (97532676 : Int32) → ((v3 = (109399969 : Int32) → (xrc σ4 b2 9 ∧ xcall (fun τ L => P_J14_equals κ b2 (some (κ 18)) τ L) σ4 fun v289 σ290 => ((v289 = 0 → ((((-1 : Int32) = (0 : Int32) → (xgi σ290 a0 11 1 fun v341 => xnn x1 fun b342 => xrc σ290 b342 1 ∧ xcallX (fun τ L LX => P_X2_readsWord κ b342 v341 τ L LX) σ290 (fun v343 σ344 => K v343 σ344.1) (fun q345 σ346 => κ 0 ≤ q345 ∧ ((xrc σ346 q345 26 ∧ (KX q345 σ346.1)))))) ∧ (¬ (-1 : Int32) = (0 : Int32) → (((-1 : Int32) = (1 : Int32) → (xgi σ290 a0 11 1 fun v334 => xgi σ290 a0 11 2 fun v335 => xnn x1 fun b336 => xrc σ290 b336 1 ∧ xcallX (fun τ L LX => P_X2_writesWord κ b336 v334 v335 τ L LX) σ290 (fun v337 σ338 => K v337 σ338.1) (fun q339 σ340 => κ 0 ≤ q339 ∧ ((xrc σ340 q339 26 ∧ (KX q339 σ340.1)))))) ∧ (¬ (-1 : Int32) = (1 : Int32) → (((-1 : Int32) = (2 : Int32) → (xgi σ290 a0 11 1 fun v328 => xnn x1 fun b329 => xrc σ290 b329 1 ∧ xcallX (fun τ L LX => P_X2_pins κ b329 v328 τ L LX) σ290 (fun v330 σ331 => K v330 σ331.1) (fun q332 σ333 => κ 0 ≤ q332 ∧ ((xrc σ333 q332 26 ∧ (KX q332 σ333.1)))))) ∧ (¬ (-1 : Int32) = (2 : Int32) → (((-1 : Int32) = (3 : Int32) → (xgi σ290 a0 11 1 fun v322 => xnn x1 fun b323 => xrc σ290 b323 1 ∧ xcallX (fun τ L LX => P_X2_frees κ b323 v322 τ L LX) σ290 (fun v324 σ325 => K v324 σ325.1) (fun q326 σ327 => κ 0 ≤ q326 ∧ ((xrc σ327 q326 26 ∧ (KX q326 σ327.1)))))) ∧ (¬ (-1 : Int32) = (3 : Int32) → (((-1 : Int32) = (4 : Int32) → (xnn x1 fun b317 => xrc σ290 b317 1 ∧ xcallX (fun τ L LX => P_X2_flushes κ b317 τ L LX) σ290 (fun v318 σ319 => K v318 σ319.1) (fun q320 σ321 => κ 0 ≤ q320 ∧ ((xrc σ321 q320 26 ∧ (KX q320 σ321.1)))))) ∧ (¬ (-1 : Int32) = (4 : Int32) → (((-1 : Int32) = (5 : Int32) → (xgi σ290 a0 11 1 fun v310 => xgi σ290 a0 11 2 fun v311 => xnn x1 fun b312 => xrc σ290 b312 1 ∧ xcallX (fun τ L LX => P_X2_deviceWrites κ b312 v310 v311 τ L LX) σ290 (fun v313 σ314 => K v313 σ314.1) (fun q315 σ316 => κ 0 ≤ q315 ∧ ((xrc σ316 q315 26 ∧ (KX q315 σ316.1)))))) ∧ (¬ (-1 : Int32) = (5 : Int32) → (((-1 : Int32) = (6 : Int32) → (xgi σ290 a0 11 1 fun v304 => xnn x1 fun b305 => xrc σ290 b305 1 ∧ xcallX (fun τ L LX => P_X2_waits κ b305 v304 τ L LX) σ290 (fun v306 σ307 => K v306 σ307.1) (fun q308 σ309 => κ 0 ≤ q308 ∧ ((xrc σ309 q308 26 ∧ (KX q308 σ309.1)))))) ∧ (¬ (-1 : Int32) = (6 : Int32) → (((-1 : Int32) = (7 : Int32) → (xgi σ290 a0 11 1 fun v297 => xgi σ290 a0 11 2 fun v298 => xnn x1 fun b299 => xrc σ290 b299 1 ∧ xcallX (fun τ L LX => P_X2_shapes κ b299 v297 v298 τ L LX) σ290 (fun v300 σ301 => K v300 σ301.1) (fun q302 σ303 => κ 0 ≤ q302 ∧ ((xrc σ303 q302 26 ∧ (KX q302 σ303.1)))))) ∧ (¬ (-1 : Int32) = (7 : Int32) → (xgi σ290 a0 11 1 fun v291 => xnn x1 fun b292 => xrc σ290 b292 1 ∧ xcallX (fun τ L LX => P_X2_rules κ b292 v291 τ L LX) σ290 (fun v293 σ294 => K v293 σ294.1) (fun q295 σ296 => κ 0 ≤ q295 ∧ ((xrc σ296 q295 26 ∧ (KX q295 σ296.1))))))))))))))))))))))) ∧ (¬ v289 = 0 → ((((7 : Int32) = (0 : Int32) → (xgi σ290 a0 11 1 fun v397 => xnn x1 fun b398 => xrc σ290 b398 1 ∧ xcallX (fun τ L LX => P_X2_readsWord κ b398 v397 τ L LX) σ290 (fun v399 σ400 => K v399 σ400.1) (fun q401 σ402 => κ 0 ≤ q401 ∧ ((xrc σ402 q401 26 ∧ (KX q401 σ402.1)))))) ∧ (¬ (7 : Int32) = (0 : Int32) → (((7 : Int32) = (1 : Int32) → (xgi σ290 a0 11 1 fun v390 => xgi σ290 a0 11 2 fun v391 => xnn x1 fun b392 => xrc σ290 b392 1 ∧ xcallX (fun τ L LX => P_X2_writesWord κ b392 v390 v391 τ L LX) σ290 (fun v393 σ394 => K v393 σ394.1) (fun q395 σ396 => κ 0 ≤ q395 ∧ ((xrc σ396 q395 26 ∧ (KX q395 σ396.1)))))) ∧ (¬ (7 : Int32) = (1 : Int32) → (((7 : Int32) = (2 : Int32) → (xgi σ290 a0 11 1 fun v384 => xnn x1 fun b385 => xrc σ290 b385 1 ∧ xcallX (fun τ L LX => P_X2_pins κ b385 v384 τ L LX) σ290 (fun v386 σ387 => K v386 σ387.1) (fun q388 σ389 => κ 0 ≤ q388 ∧ ((xrc σ389 q388 26 ∧ (KX q388 σ389.1)))))) ∧ (¬ (7 : Int32) = (2 : Int32) → (((7 : Int32) = (3 : Int32) → (xgi σ290 a0 11 1 fun v378 => xnn x1 fun b379 => xrc σ290 b379 1 ∧ xcallX (fun τ L LX => P_X2_frees κ b379 v378 τ L LX) σ290 (fun v380 σ381 => K v380 σ381.1) (fun q382 σ383 => κ 0 ≤ q382 ∧ ((xrc σ383 q382 26 ∧ (KX q382 σ383.1)))))) ∧ (¬ (7 : Int32) = (3 : Int32) → (((7 : Int32) = (4 : Int32) → (xnn x1 fun b373 => xrc σ290 b373 1 ∧ xcallX (fun τ L LX => P_X2_flushes κ b373 τ L LX) σ290 (fun v374 σ375 => K v374 σ375.1) (fun q376 σ377 => κ 0 ≤ q376 ∧ ((xrc σ377 q376 26 ∧ (KX q376 σ377.1)))))) ∧ (¬ (7 : Int32) = (4 : Int32) → (((7 : Int32) = (5 : Int32) → (xgi σ290 a0 11 1 fun v366 => xgi σ290 a0 11 2 fun v367 => xnn x1 fun b368 => xrc σ290 b368 1 ∧ xcallX (fun τ L LX => P_X2_deviceWrites κ b368 v366 v367 τ L LX) σ290 (fun v369 σ370 => K v369 σ370.1) (fun q371 σ372 => κ 0 ≤ q371 ∧ ((xrc σ372 q371 26 ∧ (KX q371 σ372.1)))))) ∧ (¬ (7 : Int32) = (5 : Int32) → (((7 : Int32) = (6 : Int32) → (xgi σ290 a0 11 1 fun v360 => xnn x1 fun b361 => xrc σ290 b361 1 ∧ xcallX (fun τ L LX => P_X2_waits κ b361 v360 τ L LX) σ290 (fun v362 σ363 => K v362 σ363.1) (fun q364 σ365 => κ 0 ≤ q364 ∧ ((xrc σ365 q364 26 ∧ (KX q364 σ365.1)))))) ∧ (¬ (7 : Int32) = (6 : Int32) → (((7 : Int32) = (7 : Int32) → (xgi σ290 a0 11 1 fun v353 => xgi σ290 a0 11 2 fun v354 => xnn x1 fun b355 => xrc σ290 b355 1 ∧ xcallX (fun τ L LX => P_X2_shapes κ b355 v353 v354 τ L LX) σ290 (fun v356 σ357 => K v356 σ357.1) (fun q358 σ359 => κ 0 ≤ q358 ∧ ((xrc σ359 q358 26 ∧ (KX q358 σ359.1)))))) ∧ (¬ (7 : Int32) = (7 : Int32) → (xgi σ290 a0 11 1 fun v347 => xnn x1 fun b348 => xrc σ290 b348 1 ∧ xcallX (fun τ L LX => P_X2_rules κ b348 v347 τ L LX) σ290 (fun v349 σ350 => K v349 σ350.1) (fun q351 σ352 => κ 0 ≤ q351 ∧ ((xrc σ352 q351 26 ∧ (KX q351 σ352.1)))))))))))))))))))))))))) ∧ (¬ v3 = (109399969 : Int32) → ((v3 = (110355062 : Int32) → (xrc σ4 b2 9 ∧ xcall (fun τ L => P_J14_equals κ b2 (some (κ 17)) τ L) σ4 fun v175 σ176 => ((v175 = 0 → ((((-1 : Int32) = (0 : Int32) → (xgi σ176 a0 11 1 fun v227 => xnn x1 fun b228 => xrc σ176 b228 1 ∧ xcallX (fun τ L LX => P_X2_readsWord κ b228 v227 τ L LX) σ176 (fun v229 σ230 => K v229 σ230.1) (fun q231 σ232 => κ 0 ≤ q231 ∧ ((xrc σ232 q231 26 ∧ (KX q231 σ232.1)))))) ∧ (¬ (-1 : Int32) = (0 : Int32) → (((-1 : Int32) = (1 : Int32) → (xgi σ176 a0 11 1 fun v220 => xgi σ176 a0 11 2 fun v221 => xnn x1 fun b222 => xrc σ176 b222 1 ∧ xcallX (fun τ L LX => P_X2_writesWord κ b222 v220 v221 τ L LX) σ176 (fun v223 σ224 => K v223 σ224.1) (fun q225 σ226 => κ 0 ≤ q225 ∧ ((xrc σ226 q225 26 ∧ (KX q225 σ226.1)))))) ∧ (¬ (-1 : Int32) = (1 : Int32) → (((-1 : Int32) = (2 : Int32) → (xgi σ176 a0 11 1 fun v214 => xnn x1 fun b215 => xrc σ176 b215 1 ∧ xcallX (fun τ L LX => P_X2_pins κ b215 v214 τ L LX) σ176 (fun v216 σ217 => K v216 σ217.1) (fun q218 σ219 => κ 0 ≤ q218 ∧ ((xrc σ219 q218 26 ∧ (KX q218 σ219.1)))))) ∧ (¬ (-1 : Int32) = (2 : Int32) → (((-1 : Int32) = (3 : Int32) → (xgi σ176 a0 11 1 fun v208 => xnn x1 fun b209 => xrc σ176 b209 1 ∧ xcallX (fun τ L LX => P_X2_frees κ b209 v208 τ L LX) σ176 (fun v210 σ211 => K v210 σ211.1) (fun q212 σ213 => κ 0 ≤ q212 ∧ ((xrc σ213 q212 26 ∧ (KX q212 σ213.1)))))) ∧ (¬ (-1 : Int32) = (3 : Int32) → (((-1 : Int32) = (4 : Int32) → (xnn x1 fun b203 => xrc σ176 b203 1 ∧ xcallX (fun τ L LX => P_X2_flushes κ b203 τ L LX) σ176 (fun v204 σ205 => K v204 σ205.1) (fun q206 σ207 => κ 0 ≤ q206 ∧ ((xrc σ207 q206 26 ∧ (KX q206 σ207.1)))))) ∧ (¬ (-1 : Int32) = (4 : Int32) → (((-1 : Int32) = (5 : Int32) → (xgi σ176 a0 11 1 fun v196 => xgi σ176 a0 11 2 fun v197 => xnn x1 fun b198 => xrc σ176 b198 1 ∧ xcallX (fun τ L LX => P_X2_deviceWrites κ b198 v196 v197 τ L LX) σ176 (fun v199 σ200 => K v199 σ200.1) (fun q201 σ202 => κ 0 ≤ q201 ∧ ((xrc σ202 q201 26 ∧ (KX q201 σ202.1)))))) ∧ (¬ (-1 : Int32) = (5 : Int32) → (((-1 : Int32) = (6 : Int32) → (xgi σ176 a0 11 1 fun v190 => xnn x1 fun b191 => xrc σ176 b191 1 ∧ xcallX (fun τ L LX => P_X2_waits κ b191 v190 τ L LX) σ176 (fun v192 σ193 => K v192 σ193.1) (fun q194 σ195 => κ 0 ≤ q194 ∧ ((xrc σ195 q194 26 ∧ (KX q194 σ195.1)))))) ∧ (¬ (-1 : Int32) = (6 : Int32) → (((-1 : Int32) = (7 : Int32) → (xgi σ176 a0 11 1 fun v183 => xgi σ176 a0 11 2 fun v184 => xnn x1 fun b185 => xrc σ176 b185 1 ∧ xcallX (fun τ L LX => P_X2_shapes κ b185 v183 v184 τ L LX) σ176 (fun v186 σ187 => K v186 σ187.1) (fun q188 σ189 => κ 0 ≤ q188 ∧ ((xrc σ189 q188 26 ∧ (KX q188 σ189.1)))))) ∧ (¬ (-1 : Int32) = (7 : Int32) → (xgi σ176 a0 11 1 fun v177 => xnn x1 fun b178 => xrc σ176 b178 1 ∧ xcallX (fun τ L LX => P_X2_rules κ b178 v177 τ L LX) σ176 (fun v179 σ180 => K v179 σ180.1) (fun q181 σ182 => κ 0 ≤ q181 ∧ ((xrc σ182 q181 26 ∧ (KX q181 σ182.1))))))))))))))))))))))) ∧ (¬ v175 = 0 → ((((6 : Int32) = (0 : Int32) → (xgi σ176 a0 11 1 fun v283 => xnn x1 fun b284 => xrc σ176 b284 1 ∧ xcallX (fun τ L LX => P_X2_readsWord κ b284 v283 τ L LX) σ176 (fun v285 σ286 => K v285 σ286.1) (fun q287 σ288 => κ 0 ≤ q287 ∧ ((xrc σ288 q287 26 ∧ (KX q287 σ288.1)))))) ∧ (¬ (6 : Int32) = (0 : Int32) → (((6 : Int32) = (1 : Int32) → (xgi σ176 a0 11 1 fun v276 => xgi σ176 a0 11 2 fun v277 => xnn x1 fun b278 => xrc σ176 b278 1 ∧ xcallX (fun τ L LX => P_X2_writesWord κ b278 v276 v277 τ L LX) σ176 (fun v279 σ280 => K v279 σ280.1) (fun q281 σ282 => κ 0 ≤ q281 ∧ ((xrc σ282 q281 26 ∧ (KX q281 σ282.1)))))) ∧ (¬ (6 : Int32) = (1 : Int32) → (((6 : Int32) = (2 : Int32) → (xgi σ176 a0 11 1 fun v270 => xnn x1 fun b271 => xrc σ176 b271 1 ∧ xcallX (fun τ L LX => P_X2_pins κ b271 v270 τ L LX) σ176 (fun v272 σ273 => K v272 σ273.1) (fun q274 σ275 => κ 0 ≤ q274 ∧ ((xrc σ275 q274 26 ∧ (KX q274 σ275.1)))))) ∧ (¬ (6 : Int32) = (2 : Int32) → (((6 : Int32) = (3 : Int32) → (xgi σ176 a0 11 1 fun v264 => xnn x1 fun b265 => xrc σ176 b265 1 ∧ xcallX (fun τ L LX => P_X2_frees κ b265 v264 τ L LX) σ176 (fun v266 σ267 => K v266 σ267.1) (fun q268 σ269 => κ 0 ≤ q268 ∧ ((xrc σ269 q268 26 ∧ (KX q268 σ269.1)))))) ∧ (¬ (6 : Int32) = (3 : Int32) → (((6 : Int32) = (4 : Int32) → (xnn x1 fun b259 => xrc σ176 b259 1 ∧ xcallX (fun τ L LX => P_X2_flushes κ b259 τ L LX) σ176 (fun v260 σ261 => K v260 σ261.1) (fun q262 σ263 => κ 0 ≤ q262 ∧ ((xrc σ263 q262 26 ∧ (KX q262 σ263.1)))))) ∧ (¬ (6 : Int32) = (4 : Int32) → (((6 : Int32) = (5 : Int32) → (xgi σ176 a0 11 1 fun v252 => xgi σ176 a0 11 2 fun v253 => xnn x1 fun b254 => xrc σ176 b254 1 ∧ xcallX (fun τ L LX => P_X2_deviceWrites κ b254 v252 v253 τ L LX) σ176 (fun v255 σ256 => K v255 σ256.1) (fun q257 σ258 => κ 0 ≤ q257 ∧ ((xrc σ258 q257 26 ∧ (KX q257 σ258.1)))))) ∧ (¬ (6 : Int32) = (5 : Int32) → (((6 : Int32) = (6 : Int32) → (xgi σ176 a0 11 1 fun v246 => xnn x1 fun b247 => xrc σ176 b247 1 ∧ xcallX (fun τ L LX => P_X2_waits κ b247 v246 τ L LX) σ176 (fun v248 σ249 => K v248 σ249.1) (fun q250 σ251 => κ 0 ≤ q250 ∧ ((xrc σ251 q250 26 ∧ (KX q250 σ251.1)))))) ∧ (¬ (6 : Int32) = (6 : Int32) → (((6 : Int32) = (7 : Int32) → (xgi σ176 a0 11 1 fun v239 => xgi σ176 a0 11 2 fun v240 => xnn x1 fun b241 => xrc σ176 b241 1 ∧ xcallX (fun τ L LX => P_X2_shapes κ b241 v239 v240 τ L LX) σ176 (fun v242 σ243 => K v242 σ243.1) (fun q244 σ245 => κ 0 ≤ q244 ∧ ((xrc σ245 q244 26 ∧ (KX q244 σ245.1)))))) ∧ (¬ (6 : Int32) = (7 : Int32) → (xgi σ176 a0 11 1 fun v233 => xnn x1 fun b234 => xrc σ176 b234 1 ∧ xcallX (fun τ L LX => P_X2_rules κ b234 v233 τ L LX) σ176 (fun v235 σ236 => K v235 σ236.1) (fun q237 σ238 => κ 0 ≤ q237 ∧ ((xrc σ238 q237 26 ∧ (KX q237 σ238.1)))))))))))))))))))))))))) ∧ (¬ v3 = (110355062 : Int32) → ((v3 = (113399775 : Int32) → (xrc σ4 b2 9 ∧ xcall (fun τ L => P_J14_equals κ b2 (some (κ 12)) τ L) σ4 fun v61 σ62 => ((v61 = 0 → ((((-1 : Int32) = (0 : Int32) → (xgi σ62 a0 11 1 fun v113 => xnn x1 fun b114 => xrc σ62 b114 1 ∧ xcallX (fun τ L LX => P_X2_readsWord κ b114 v113 τ L LX) σ62 (fun v115 σ116 => K v115 σ116.1) (fun q117 σ118 => κ 0 ≤ q117 ∧ ((xrc σ118 q117 26 ∧ (KX q117 σ118.1)))))) ∧ (¬ (-1 : Int32) = (0 : Int32) → (((-1 : Int32) = (1 : Int32) → (xgi σ62 a0 11 1 fun v106 => xgi σ62 a0 11 2 fun v107 => xnn x1 fun b108 => xrc σ62 b108 1 ∧ xcallX (fun τ L LX => P_X2_writesWord κ b108 v106 v107 τ L LX) σ62 (fun v109 σ110 => K v109 σ110.1) (fun q111 σ112 => κ 0 ≤ q111 ∧ ((xrc σ112 q111 26 ∧ (KX q111 σ112.1)))))) ∧ (¬ (-1 : Int32) = (1 : Int32) → (((-1 : Int32) = (2 : Int32) → (xgi σ62 a0 11 1 fun v100 => xnn x1 fun b101 => xrc σ62 b101 1 ∧ xcallX (fun τ L LX => P_X2_pins κ b101 v100 τ L LX) σ62 (fun v102 σ103 => K v102 σ103.1) (fun q104 σ105 => κ 0 ≤ q104 ∧ ((xrc σ105 q104 26 ∧ (KX q104 σ105.1)))))) ∧ (¬ (-1 : Int32) = (2 : Int32) → (((-1 : Int32) = (3 : Int32) → (xgi σ62 a0 11 1 fun v94 => xnn x1 fun b95 => xrc σ62 b95 1 ∧ xcallX (fun τ L LX => P_X2_frees κ b95 v94 τ L LX) σ62 (fun v96 σ97 => K v96 σ97.1) (fun q98 σ99 => κ 0 ≤ q98 ∧ ((xrc σ99 q98 26 ∧ (KX q98 σ99.1)))))) ∧ (¬ (-1 : Int32) = (3 : Int32) → (((-1 : Int32) = (4 : Int32) → (xnn x1 fun b89 => xrc σ62 b89 1 ∧ xcallX (fun τ L LX => P_X2_flushes κ b89 τ L LX) σ62 (fun v90 σ91 => K v90 σ91.1) (fun q92 σ93 => κ 0 ≤ q92 ∧ ((xrc σ93 q92 26 ∧ (KX q92 σ93.1)))))) ∧ (¬ (-1 : Int32) = (4 : Int32) → (((-1 : Int32) = (5 : Int32) → (xgi σ62 a0 11 1 fun v82 => xgi σ62 a0 11 2 fun v83 => xnn x1 fun b84 => xrc σ62 b84 1 ∧ xcallX (fun τ L LX => P_X2_deviceWrites κ b84 v82 v83 τ L LX) σ62 (fun v85 σ86 => K v85 σ86.1) (fun q87 σ88 => κ 0 ≤ q87 ∧ ((xrc σ88 q87 26 ∧ (KX q87 σ88.1)))))) ∧ (¬ (-1 : Int32) = (5 : Int32) → (((-1 : Int32) = (6 : Int32) → (xgi σ62 a0 11 1 fun v76 => xnn x1 fun b77 => xrc σ62 b77 1 ∧ xcallX (fun τ L LX => P_X2_waits κ b77 v76 τ L LX) σ62 (fun v78 σ79 => K v78 σ79.1) (fun q80 σ81 => κ 0 ≤ q80 ∧ ((xrc σ81 q80 26 ∧ (KX q80 σ81.1)))))) ∧ (¬ (-1 : Int32) = (6 : Int32) → (((-1 : Int32) = (7 : Int32) → (xgi σ62 a0 11 1 fun v69 => xgi σ62 a0 11 2 fun v70 => xnn x1 fun b71 => xrc σ62 b71 1 ∧ xcallX (fun τ L LX => P_X2_shapes κ b71 v69 v70 τ L LX) σ62 (fun v72 σ73 => K v72 σ73.1) (fun q74 σ75 => κ 0 ≤ q74 ∧ ((xrc σ75 q74 26 ∧ (KX q74 σ75.1)))))) ∧ (¬ (-1 : Int32) = (7 : Int32) → (xgi σ62 a0 11 1 fun v63 => xnn x1 fun b64 => xrc σ62 b64 1 ∧ xcallX (fun τ L LX => P_X2_rules κ b64 v63 τ L LX) σ62 (fun v65 σ66 => K v65 σ66.1) (fun q67 σ68 => κ 0 ≤ q67 ∧ ((xrc σ68 q67 26 ∧ (KX q67 σ68.1))))))))))))))))))))))) ∧ (¬ v61 = 0 → ((((1 : Int32) = (0 : Int32) → (xgi σ62 a0 11 1 fun v169 => xnn x1 fun b170 => xrc σ62 b170 1 ∧ xcallX (fun τ L LX => P_X2_readsWord κ b170 v169 τ L LX) σ62 (fun v171 σ172 => K v171 σ172.1) (fun q173 σ174 => κ 0 ≤ q173 ∧ ((xrc σ174 q173 26 ∧ (KX q173 σ174.1)))))) ∧ (¬ (1 : Int32) = (0 : Int32) → (((1 : Int32) = (1 : Int32) → (xgi σ62 a0 11 1 fun v162 => xgi σ62 a0 11 2 fun v163 => xnn x1 fun b164 => xrc σ62 b164 1 ∧ xcallX (fun τ L LX => P_X2_writesWord κ b164 v162 v163 τ L LX) σ62 (fun v165 σ166 => K v165 σ166.1) (fun q167 σ168 => κ 0 ≤ q167 ∧ ((xrc σ168 q167 26 ∧ (KX q167 σ168.1)))))) ∧ (¬ (1 : Int32) = (1 : Int32) → (((1 : Int32) = (2 : Int32) → (xgi σ62 a0 11 1 fun v156 => xnn x1 fun b157 => xrc σ62 b157 1 ∧ xcallX (fun τ L LX => P_X2_pins κ b157 v156 τ L LX) σ62 (fun v158 σ159 => K v158 σ159.1) (fun q160 σ161 => κ 0 ≤ q160 ∧ ((xrc σ161 q160 26 ∧ (KX q160 σ161.1)))))) ∧ (¬ (1 : Int32) = (2 : Int32) → (((1 : Int32) = (3 : Int32) → (xgi σ62 a0 11 1 fun v150 => xnn x1 fun b151 => xrc σ62 b151 1 ∧ xcallX (fun τ L LX => P_X2_frees κ b151 v150 τ L LX) σ62 (fun v152 σ153 => K v152 σ153.1) (fun q154 σ155 => κ 0 ≤ q154 ∧ ((xrc σ155 q154 26 ∧ (KX q154 σ155.1)))))) ∧ (¬ (1 : Int32) = (3 : Int32) → (((1 : Int32) = (4 : Int32) → (xnn x1 fun b145 => xrc σ62 b145 1 ∧ xcallX (fun τ L LX => P_X2_flushes κ b145 τ L LX) σ62 (fun v146 σ147 => K v146 σ147.1) (fun q148 σ149 => κ 0 ≤ q148 ∧ ((xrc σ149 q148 26 ∧ (KX q148 σ149.1)))))) ∧ (¬ (1 : Int32) = (4 : Int32) → (((1 : Int32) = (5 : Int32) → (xgi σ62 a0 11 1 fun v138 => xgi σ62 a0 11 2 fun v139 => xnn x1 fun b140 => xrc σ62 b140 1 ∧ xcallX (fun τ L LX => P_X2_deviceWrites κ b140 v138 v139 τ L LX) σ62 (fun v141 σ142 => K v141 σ142.1) (fun q143 σ144 => κ 0 ≤ q143 ∧ ((xrc σ144 q143 26 ∧ (KX q143 σ144.1)))))) ∧ (¬ (1 : Int32) = (5 : Int32) → (((1 : Int32) = (6 : Int32) → (xgi σ62 a0 11 1 fun v132 => xnn x1 fun b133 => xrc σ62 b133 1 ∧ xcallX (fun τ L LX => P_X2_waits κ b133 v132 τ L LX) σ62 (fun v134 σ135 => K v134 σ135.1) (fun q136 σ137 => κ 0 ≤ q136 ∧ ((xrc σ137 q136 26 ∧ (KX q136 σ137.1)))))) ∧ (¬ (1 : Int32) = (6 : Int32) → (((1 : Int32) = (7 : Int32) → (xgi σ62 a0 11 1 fun v125 => xgi σ62 a0 11 2 fun v126 => xnn x1 fun b127 => xrc σ62 b127 1 ∧ xcallX (fun τ L LX => P_X2_shapes κ b127 v125 v126 τ L LX) σ62 (fun v128 σ129 => K v128 σ129.1) (fun q130 σ131 => κ 0 ≤ q130 ∧ ((xrc σ131 q130 26 ∧ (KX q130 σ131.1)))))) ∧ (¬ (1 : Int32) = (7 : Int32) → (xgi σ62 a0 11 1 fun v119 => xnn x1 fun b120 => xrc σ62 b120 1 ∧ xcallX (fun τ L LX => P_X2_rules κ b120 v119 τ L LX) σ62 (fun v121 σ122 => K v121 σ122.1) (fun q123 σ124 => κ 0 ≤ q123 ∧ ((xrc σ124 q123 26 ∧ (KX q123 σ124.1)))))))))))))))))))))))))) ∧ (¬ v3 = (113399775 : Int32) → ((((-1 : Int32) = (0 : Int32) → (xgi σ4 a0 11 1 fun v55 => xnn x1 fun b56 => xrc σ4 b56 1 ∧ xcallX (fun τ L LX => P_X2_readsWord κ b56 v55 τ L LX) σ4 (fun v57 σ58 => K v57 σ58.1) (fun q59 σ60 => κ 0 ≤ q59 ∧ ((xrc σ60 q59 26 ∧ (KX q59 σ60.1)))))) ∧ (¬ (-1 : Int32) = (0 : Int32) → (((-1 : Int32) = (1 : Int32) → (xgi σ4 a0 11 1 fun v48 => xgi σ4 a0 11 2 fun v49 => xnn x1 fun b50 => xrc σ4 b50 1 ∧ xcallX (fun τ L LX => P_X2_writesWord κ b50 v48 v49 τ L LX) σ4 (fun v51 σ52 => K v51 σ52.1) (fun q53 σ54 => κ 0 ≤ q53 ∧ ((xrc σ54 q53 26 ∧ (KX q53 σ54.1)))))) ∧ (¬ (-1 : Int32) = (1 : Int32) → (((-1 : Int32) = (2 : Int32) → (xgi σ4 a0 11 1 fun v42 => xnn x1 fun b43 => xrc σ4 b43 1 ∧ xcallX (fun τ L LX => P_X2_pins κ b43 v42 τ L LX) σ4 (fun v44 σ45 => K v44 σ45.1) (fun q46 σ47 => κ 0 ≤ q46 ∧ ((xrc σ47 q46 26 ∧ (KX q46 σ47.1)))))) ∧ (¬ (-1 : Int32) = (2 : Int32) → (((-1 : Int32) = (3 : Int32) → (xgi σ4 a0 11 1 fun v36 => xnn x1 fun b37 => xrc σ4 b37 1 ∧ xcallX (fun τ L LX => P_X2_frees κ b37 v36 τ L LX) σ4 (fun v38 σ39 => K v38 σ39.1) (fun q40 σ41 => κ 0 ≤ q40 ∧ ((xrc σ41 q40 26 ∧ (KX q40 σ41.1)))))) ∧ (¬ (-1 : Int32) = (3 : Int32) → (((-1 : Int32) = (4 : Int32) → (xnn x1 fun b31 => xrc σ4 b31 1 ∧ xcallX (fun τ L LX => P_X2_flushes κ b31 τ L LX) σ4 (fun v32 σ33 => K v32 σ33.1) (fun q34 σ35 => κ 0 ≤ q34 ∧ ((xrc σ35 q34 26 ∧ (KX q34 σ35.1)))))) ∧ (¬ (-1 : Int32) = (4 : Int32) → (((-1 : Int32) = (5 : Int32) → (xgi σ4 a0 11 1 fun v24 => xgi σ4 a0 11 2 fun v25 => xnn x1 fun b26 => xrc σ4 b26 1 ∧ xcallX (fun τ L LX => P_X2_deviceWrites κ b26 v24 v25 τ L LX) σ4 (fun v27 σ28 => K v27 σ28.1) (fun q29 σ30 => κ 0 ≤ q29 ∧ ((xrc σ30 q29 26 ∧ (KX q29 σ30.1)))))) ∧ (¬ (-1 : Int32) = (5 : Int32) → (((-1 : Int32) = (6 : Int32) → (xgi σ4 a0 11 1 fun v18 => xnn x1 fun b19 => xrc σ4 b19 1 ∧ xcallX (fun τ L LX => P_X2_waits κ b19 v18 τ L LX) σ4 (fun v20 σ21 => K v20 σ21.1) (fun q22 σ23 => κ 0 ≤ q22 ∧ ((xrc σ23 q22 26 ∧ (KX q22 σ23.1)))))) ∧ (¬ (-1 : Int32) = (6 : Int32) → (((-1 : Int32) = (7 : Int32) → (xgi σ4 a0 11 1 fun v11 => xgi σ4 a0 11 2 fun v12 => xnn x1 fun b13 => xrc σ4 b13 1 ∧ xcallX (fun τ L LX => P_X2_shapes κ b13 v11 v12 τ L LX) σ4 (fun v14 σ15 => K v14 σ15.1) (fun q16 σ17 => κ 0 ≤ q16 ∧ ((xrc σ17 q16 26 ∧ (KX q16 σ17.1)))))) ∧ (¬ (-1 : Int32) = (7 : Int32) → (xgi σ4 a0 11 1 fun v5 => xnn x1 fun b6 => xrc σ4 b6 1 ∧ xcallX (fun τ L LX => P_X2_rules κ b6 v5 τ L LX) σ4 (fun v7 σ8 => K v7 σ8.1) (fun q9 σ10 => κ 0 ≤ q9 ∧ ((xrc σ10 q9 26 ∧ (KX q9 σ10.1))))))))))))))))))))))))))))))))))))))
theorem mdX5_does : yX5_does.cls ≠ "java/lang/invoke/MethodHandle" ∧ yX5_does.cls ≠ "java/lang/invoke/VarHandle" ∧ (parseMethodDescriptor yX5_does.desc).map (fun d => d.parameters.length) = some 1 := by decide +kernel
set_option maxHeartbeats 4000000 in
set_option maxRecDepth 100000 in
theorem R_X5_does (l : Launch) (hl : l.stackTraces = false) (G : xG) (hG : G.1.2 = x_cl) (a0 : Nat) (x1 : Option Nat) (σ : xS) (K : Int32 → xH → Prop) (KX : Nat → xH → Prop) (hp : P_X5_does G.2 a0 x1 σ K KX) : xMX l yX5_does cX5_does 4 (Option.some Jvm.ClassFile.FieldType.int) 12 285 G [(.ref a0), va_rf x1] σ (xlift emI K) KX := by
  refine x_entryX (by decide) (by simp [lg_sl, x_catq, x_cati, x_catr, x_catn]) ?_
  intro p e s m args below meth c X hr hin hno
  have X : xX p s m args meth c G cX5_does 4 RX5 := X
  have hx := X.1
  have hb := X.2.1
  have hts := X.2.2.2.2.1
  have hown := X.2.2.2.1
  have hout : ∀ pc, ∀ x ∈ c.exceptionTable.toList, covers x pc = false := fun _ x hx => (hno x hx).elim
  unfold P_X5_does at hp
  refine x_same (lo' := [(0, .ref a0), (1, va_rf x1)]) (by simp [lv_args, x_catq, x_cati, x_catr, x_catn]) ?_
  refine x_up (pc' := 1) (fun _ _ _ _ _ L => lv_aload_n hx hb dX5_does_0 rfl (lv_at L 0 rfl)) ?_
  refine x_gq X (kX5 hG) 0 (by decide) q2136 (fun _ h => h) dX5_does_1 hp (fun v1 hp1 => ?_)
  refine x_pc (pc' := 4) rfl ?_
  refine x_st (pc' := 5) ([(2, va_rf v1), (0, .ref a0), (1, va_rf x1)]) rfl (by simp [x_catq, x_cati, x_catr, x_catn]) (fun _ _ _ _ _ L => lv_astoreq_n hx hb dX5_does_4 rfl L (by decide) rfl) ?_
  refine x_up (pc' := 6) (fun _ _ _ _ _ L => lv_iconst (v := (-1 : Int32)) hx hb dX5_does_5 (by decide)) ?_
  refine x_st (pc' := 7) ([(3, .int (-1 : Int32)), (2, va_rf v1), (0, .ref a0), (1, va_rf x1)]) rfl (by simp [x_catq, x_cati, x_catr, x_catn]) (fun _ _ _ _ _ L => lv_istore_n hx hb dX5_does_6 rfl L (by decide) rfl) ?_
  refine x_up (pc' := 8) (fun _ _ _ _ _ L => lv_aloadq_n hx hb dX5_does_7 rfl (lv_at L 1 rfl)) ?_
  obtain ⟨b2, rfl, hp2⟩ := hp1
  refine x_callV (em := emI) (fun r st => .int r :: st) (fun _ _ => rfl) 0 X (kJ14 hG) (fun σ' KK h => R_J14_hashCode l hl G hG b2 σ' KK h) (lw_V q2155 q2156 q2157 q117 q2158) ⟨rfl, mdJ14_hashCode⟩ ⟨Nat.le_of_ble_eq_true rfl, Nat.le_of_ble_eq_true rfl⟩ rfl rfl (Nat.le_of_ble_eq_true rfl) dX5_does_8 hp2.1 hp2.2 (fun v3 σ4 hp3 => ?_)
  refine x_pc (pc' := 11) rfl ?_
  by_cases c11_0 : v3 = (-1335157162 : Int32)
  · have hp4 := hp3.1 c11_0
    refine x_up (pc' := 154) (fun _ _ _ _ _ L => lv_lookup (off := 143) (tgt := 154) hx hb dX5_does_11 (by decide) (by rw [c11_0]; rfl) (by decide)) ?_
    refine x_up (pc' := 155) (fun _ _ _ _ _ L => lv_aload_n hx hb dX5_does_154 rfl (lv_at L 1 rfl)) ?_
    refine x_ldcS (tx := "device") (q := G.2 16) X (by simp [x_ss, RX5]) dX5_does_155 ?_
    refine x_pc (pc' := 157) rfl ?_
    refine x_callV (em := emI) (fun r st => .int r :: st) (fun _ _ => rfl) 1 X (kJ14 hG) (fun σ' KK h => R_J14_equals l hl G hG b2 (some (G.2 16)) σ' KK h) (lw_V q2217 q679 q3698 q117 q680) ⟨rfl, mdJ14_equals⟩ ⟨Nat.le_of_ble_eq_true rfl, Nat.le_of_ble_eq_true rfl⟩ rfl rfl (Nat.le_of_ble_eq_true rfl) dX5_does_157 hp4.1 hp4.2 (fun v5 σ6 hp5 => ?_)
    refine x_pc (pc' := 160) rfl ?_
    refine x_if (C := v5 = 0) (pt := 195) (pc' := 163) (fun _ _ _ _ _ => lv_if_eq (tgt := 195) hx hb dX5_does_160 (by decide)) (fun c160 => ?_) (fun c160 => ?_)
    · have hp6 := hp5.1 c160
      refine x_up (pc' := 196) (fun _ _ _ _ _ L => lv_iload_n hx hb dX5_does_195 rfl (lv_at L 0 rfl)) ?_
      by_cases c196_0 : (-1 : Int32) = (0 : Int32)
      · have hp7 := hp6.1 c196_0
        refine x_up (pc' := 244) (fun _ _ _ _ _ L => lv_tableIn (off := 48) (tgt := 244) hx hb dX5_does_196 (by rw [c196_0]; decide) (by rw [c196_0]; decide) (by rw [c196_0]; rfl) (by decide)) ?_
        refine x_up (pc' := 245) (fun _ _ _ _ _ L => lv_aloadq_n hx hb dX5_does_244 rfl (lv_at L 3 rfl)) ?_
        refine x_up (pc' := 246) (fun _ _ _ _ _ L => lv_aload_n hx hb dX5_does_245 rfl (lv_at L 2 rfl)) ?_
        refine x_gi X (kX5 hG) 1 (by decide) q2137 (fun _ h => h) dX5_does_246 hp7 (fun v7 hp8 => ?_)
        refine x_pc (pc' := 249) rfl ?_
        obtain ⟨b8, rfl, hp9⟩ := hp8
        refine x_callVX (em := emI) (fun r st => .int r :: st) (fun _ _ => rfl) 1 X (kX2 hG) (fun σ' KK KX h => R_X2_readsWord l hl G hG b8 v7 σ' KK KX h) (lw_V q2225 q2226 q2227 q100 q2228) ⟨rfl, mdX2_readsWord⟩ ⟨Nat.le_of_ble_eq_true rfl, Nat.le_of_ble_eq_true rfl⟩ rfl rfl (Nat.le_of_ble_eq_true rfl) dX5_does_249 hp9.1 hp9.2 (fun v9 σ10 hpA249 => ?_) (fun q11 σ12 hpB249 => ?_)
        · have hp10 := hpA249
          refine x_pc (pc' := 252) rfl ?_
          refine x_vx ?_; exact x_iret X hr rfl dX5_does_252 hp10
        · have hp11 := hpB249
          obtain ⟨hq249, hp12⟩ := hp11
          obtain ⟨hr249, hp13⟩ := hp12
          exact x_out X (kX6 hG) (hout 249) hr249 hq249 hp13
      have hp14 := hp6.2 c196_0
      by_cases c196_1 : (-1 : Int32) = (1 : Int32)
      · have hp15 := hp14.1 c196_1
        refine x_up (pc' := 253) (fun _ _ _ _ _ L => lv_tableIn (off := 57) (tgt := 253) hx hb dX5_does_196 (by rw [c196_1]; decide) (by rw [c196_1]; decide) (by rw [c196_1]; rfl) (by decide)) ?_
        refine x_up (pc' := 254) (fun _ _ _ _ _ L => lv_aloadq_n hx hb dX5_does_253 rfl (lv_at L 3 rfl)) ?_
        refine x_up (pc' := 255) (fun _ _ _ _ _ L => lv_aload_n hx hb dX5_does_254 rfl (lv_at L 2 rfl)) ?_
        refine x_gi X (kX5 hG) 1 (by decide) q2137 (fun _ h => h) dX5_does_255 hp15 (fun v13 hp16 => ?_)
        refine x_pc (pc' := 258) rfl ?_
        refine x_up (pc' := 259) (fun _ _ _ _ _ L => lv_aload_n hx hb dX5_does_258 rfl (lv_at L 2 rfl)) ?_
        refine x_gi X (kX5 hG) 2 (by decide) q2138 (fun _ h => h) dX5_does_259 hp16 (fun v14 hp17 => ?_)
        refine x_pc (pc' := 262) rfl ?_
        obtain ⟨b15, rfl, hp18⟩ := hp17
        refine x_callVX (em := emI) (fun r st => .int r :: st) (fun _ _ => rfl) 2 X (kX2 hG) (fun σ' KK KX h => R_X2_writesWord l hl G hG b15 v13 v14 σ' KK KX h) (lw_V q2497 q2498 q2499 q100 q2500) ⟨rfl, mdX2_writesWord⟩ ⟨Nat.le_of_ble_eq_true rfl, Nat.le_of_ble_eq_true rfl⟩ rfl rfl (Nat.le_of_ble_eq_true rfl) dX5_does_262 hp18.1 hp18.2 (fun v16 σ17 hpA262 => ?_) (fun q18 σ19 hpB262 => ?_)
        · have hp19 := hpA262
          refine x_pc (pc' := 265) rfl ?_
          refine x_vx ?_; exact x_iret X hr rfl dX5_does_265 hp19
        · have hp20 := hpB262
          obtain ⟨hq262, hp21⟩ := hp20
          obtain ⟨hr262, hp22⟩ := hp21
          exact x_out X (kX6 hG) (hout 262) hr262 hq262 hp22
      have hp23 := hp14.2 c196_1
      by_cases c196_2 : (-1 : Int32) = (2 : Int32)
      · have hp24 := hp23.1 c196_2
        refine x_up (pc' := 266) (fun _ _ _ _ _ L => lv_tableIn (off := 70) (tgt := 266) hx hb dX5_does_196 (by rw [c196_2]; decide) (by rw [c196_2]; decide) (by rw [c196_2]; rfl) (by decide)) ?_
        refine x_up (pc' := 267) (fun _ _ _ _ _ L => lv_aloadq_n hx hb dX5_does_266 rfl (lv_at L 3 rfl)) ?_
        refine x_up (pc' := 268) (fun _ _ _ _ _ L => lv_aload_n hx hb dX5_does_267 rfl (lv_at L 2 rfl)) ?_
        refine x_gi X (kX5 hG) 1 (by decide) q2137 (fun _ h => h) dX5_does_268 hp24 (fun v20 hp25 => ?_)
        refine x_pc (pc' := 271) rfl ?_
        obtain ⟨b21, rfl, hp26⟩ := hp25
        refine x_callVX (em := emI) (fun r st => .int r :: st) (fun _ _ => rfl) 1 X (kX2 hG) (fun σ' KK KX h => R_X2_pins l hl G hG b21 v20 σ' KK KX h) (lw_V q2509 q2510 q2511 q100 q2512) ⟨rfl, mdX2_pins⟩ ⟨Nat.le_of_ble_eq_true rfl, Nat.le_of_ble_eq_true rfl⟩ rfl rfl (Nat.le_of_ble_eq_true rfl) dX5_does_271 hp26.1 hp26.2 (fun v22 σ23 hpA271 => ?_) (fun q24 σ25 hpB271 => ?_)
        · have hp27 := hpA271
          refine x_pc (pc' := 274) rfl ?_
          refine x_vx ?_; exact x_iret X hr rfl dX5_does_274 hp27
        · have hp28 := hpB271
          obtain ⟨hq271, hp29⟩ := hp28
          obtain ⟨hr271, hp30⟩ := hp29
          exact x_out X (kX6 hG) (hout 271) hr271 hq271 hp30
      have hp31 := hp23.2 c196_2
      by_cases c196_3 : (-1 : Int32) = (3 : Int32)
      · have hp32 := hp31.1 c196_3
        refine x_up (pc' := 275) (fun _ _ _ _ _ L => lv_tableIn (off := 79) (tgt := 275) hx hb dX5_does_196 (by rw [c196_3]; decide) (by rw [c196_3]; decide) (by rw [c196_3]; rfl) (by decide)) ?_
        refine x_up (pc' := 276) (fun _ _ _ _ _ L => lv_aloadq_n hx hb dX5_does_275 rfl (lv_at L 3 rfl)) ?_
        refine x_up (pc' := 277) (fun _ _ _ _ _ L => lv_aload_n hx hb dX5_does_276 rfl (lv_at L 2 rfl)) ?_
        refine x_gi X (kX5 hG) 1 (by decide) q2137 (fun _ h => h) dX5_does_277 hp32 (fun v26 hp33 => ?_)
        refine x_pc (pc' := 280) rfl ?_
        obtain ⟨b27, rfl, hp34⟩ := hp33
        refine x_callVX (em := emI) (fun r st => .int r :: st) (fun _ _ => rfl) 1 X (kX2 hG) (fun σ' KK KX h => R_X2_frees l hl G hG b27 v26 σ' KK KX h) (lw_V q2522 q2523 q2524 q100 q2525) ⟨rfl, mdX2_frees⟩ ⟨Nat.le_of_ble_eq_true rfl, Nat.le_of_ble_eq_true rfl⟩ rfl rfl (Nat.le_of_ble_eq_true rfl) dX5_does_280 hp34.1 hp34.2 (fun v28 σ29 hpA280 => ?_) (fun q30 σ31 hpB280 => ?_)
        · have hp35 := hpA280
          refine x_pc (pc' := 283) rfl ?_
          refine x_vx ?_; exact x_iret X hr rfl dX5_does_283 hp35
        · have hp36 := hpB280
          obtain ⟨hq280, hp37⟩ := hp36
          obtain ⟨hr280, hp38⟩ := hp37
          exact x_out X (kX6 hG) (hout 280) hr280 hq280 hp38
      have hp39 := hp31.2 c196_3
      by_cases c196_4 : (-1 : Int32) = (4 : Int32)
      · have hp40 := hp39.1 c196_4
        refine x_up (pc' := 284) (fun _ _ _ _ _ L => lv_tableIn (off := 88) (tgt := 284) hx hb dX5_does_196 (by rw [c196_4]; decide) (by rw [c196_4]; decide) (by rw [c196_4]; rfl) (by decide)) ?_
        refine x_up (pc' := 285) (fun _ _ _ _ _ L => lv_aloadq_n hx hb dX5_does_284 rfl (lv_at L 3 rfl)) ?_
        obtain ⟨b32, rfl, hp41⟩ := hp40
        refine x_callVX (em := emI) (fun r st => .int r :: st) (fun _ _ => rfl) 0 X (kX2 hG) (fun σ' KK KX h => R_X2_flushes l hl G hG b32 σ' KK KX h) (lw_V q2526 q2527 q2528 q100 q2529) ⟨rfl, mdX2_flushes⟩ ⟨Nat.le_of_ble_eq_true rfl, Nat.le_of_ble_eq_true rfl⟩ rfl rfl (Nat.le_of_ble_eq_true rfl) dX5_does_285 hp41.1 hp41.2 (fun v33 σ34 hpA285 => ?_) (fun q35 σ36 hpB285 => ?_)
        · have hp42 := hpA285
          refine x_pc (pc' := 288) rfl ?_
          refine x_vx ?_; exact x_iret X hr rfl dX5_does_288 hp42
        · have hp43 := hpB285
          obtain ⟨hq285, hp44⟩ := hp43
          obtain ⟨hr285, hp45⟩ := hp44
          exact x_out X (kX6 hG) (hout 285) hr285 hq285 hp45
      have hp46 := hp39.2 c196_4
      by_cases c196_5 : (-1 : Int32) = (5 : Int32)
      · have hp47 := hp46.1 c196_5
        refine x_up (pc' := 289) (fun _ _ _ _ _ L => lv_tableIn (off := 93) (tgt := 289) hx hb dX5_does_196 (by rw [c196_5]; decide) (by rw [c196_5]; decide) (by rw [c196_5]; rfl) (by decide)) ?_
        refine x_up (pc' := 290) (fun _ _ _ _ _ L => lv_aloadq_n hx hb dX5_does_289 rfl (lv_at L 3 rfl)) ?_
        refine x_up (pc' := 291) (fun _ _ _ _ _ L => lv_aload_n hx hb dX5_does_290 rfl (lv_at L 2 rfl)) ?_
        refine x_gi X (kX5 hG) 1 (by decide) q2137 (fun _ h => h) dX5_does_291 hp47 (fun v37 hp48 => ?_)
        refine x_pc (pc' := 294) rfl ?_
        refine x_up (pc' := 295) (fun _ _ _ _ _ L => lv_aload_n hx hb dX5_does_294 rfl (lv_at L 2 rfl)) ?_
        refine x_gi X (kX5 hG) 2 (by decide) q2138 (fun _ h => h) dX5_does_295 hp48 (fun v38 hp49 => ?_)
        refine x_pc (pc' := 298) rfl ?_
        obtain ⟨b39, rfl, hp50⟩ := hp49
        refine x_callVX (em := emI) (fun r st => .int r :: st) (fun _ _ => rfl) 2 X (kX2 hG) (fun σ' KK KX h => R_X2_deviceWrites l hl G hG b39 v37 v38 σ' KK KX h) (lw_V q2535 q2536 q2537 q100 q2538) ⟨rfl, mdX2_deviceWrites⟩ ⟨Nat.le_of_ble_eq_true rfl, Nat.le_of_ble_eq_true rfl⟩ rfl rfl (Nat.le_of_ble_eq_true rfl) dX5_does_298 hp50.1 hp50.2 (fun v40 σ41 hpA298 => ?_) (fun q42 σ43 hpB298 => ?_)
        · have hp51 := hpA298
          refine x_pc (pc' := 301) rfl ?_
          refine x_vx ?_; exact x_iret X hr rfl dX5_does_301 hp51
        · have hp52 := hpB298
          obtain ⟨hq298, hp53⟩ := hp52
          obtain ⟨hr298, hp54⟩ := hp53
          exact x_out X (kX6 hG) (hout 298) hr298 hq298 hp54
      have hp55 := hp46.2 c196_5
      by_cases c196_6 : (-1 : Int32) = (6 : Int32)
      · have hp56 := hp55.1 c196_6
        refine x_up (pc' := 302) (fun _ _ _ _ _ L => lv_tableIn (off := 106) (tgt := 302) hx hb dX5_does_196 (by rw [c196_6]; decide) (by rw [c196_6]; decide) (by rw [c196_6]; rfl) (by decide)) ?_
        refine x_up (pc' := 303) (fun _ _ _ _ _ L => lv_aloadq_n hx hb dX5_does_302 rfl (lv_at L 3 rfl)) ?_
        refine x_up (pc' := 304) (fun _ _ _ _ _ L => lv_aload_n hx hb dX5_does_303 rfl (lv_at L 2 rfl)) ?_
        refine x_gi X (kX5 hG) 1 (by decide) q2137 (fun _ h => h) dX5_does_304 hp56 (fun v44 hp57 => ?_)
        refine x_pc (pc' := 307) rfl ?_
        obtain ⟨b45, rfl, hp58⟩ := hp57
        refine x_callVX (em := emI) (fun r st => .int r :: st) (fun _ _ => rfl) 1 X (kX2 hG) (fun σ' KK KX h => R_X2_waits l hl G hG b45 v44 σ' KK KX h) (lw_V q2543 q2544 q2545 q100 q2546) ⟨rfl, mdX2_waits⟩ ⟨Nat.le_of_ble_eq_true rfl, Nat.le_of_ble_eq_true rfl⟩ rfl rfl (Nat.le_of_ble_eq_true rfl) dX5_does_307 hp58.1 hp58.2 (fun v46 σ47 hpA307 => ?_) (fun q48 σ49 hpB307 => ?_)
        · have hp59 := hpA307
          refine x_pc (pc' := 310) rfl ?_
          refine x_vx ?_; exact x_iret X hr rfl dX5_does_310 hp59
        · have hp60 := hpB307
          obtain ⟨hq307, hp61⟩ := hp60
          obtain ⟨hr307, hp62⟩ := hp61
          exact x_out X (kX6 hG) (hout 307) hr307 hq307 hp62
      have hp63 := hp55.2 c196_6
      by_cases c196_7 : (-1 : Int32) = (7 : Int32)
      · have hp64 := hp63.1 c196_7
        refine x_up (pc' := 311) (fun _ _ _ _ _ L => lv_tableIn (off := 115) (tgt := 311) hx hb dX5_does_196 (by rw [c196_7]; decide) (by rw [c196_7]; decide) (by rw [c196_7]; rfl) (by decide)) ?_
        refine x_up (pc' := 312) (fun _ _ _ _ _ L => lv_aloadq_n hx hb dX5_does_311 rfl (lv_at L 3 rfl)) ?_
        refine x_up (pc' := 313) (fun _ _ _ _ _ L => lv_aload_n hx hb dX5_does_312 rfl (lv_at L 2 rfl)) ?_
        refine x_gi X (kX5 hG) 1 (by decide) q2137 (fun _ h => h) dX5_does_313 hp64 (fun v50 hp65 => ?_)
        refine x_pc (pc' := 316) rfl ?_
        refine x_up (pc' := 317) (fun _ _ _ _ _ L => lv_aload_n hx hb dX5_does_316 rfl (lv_at L 2 rfl)) ?_
        refine x_gi X (kX5 hG) 2 (by decide) q2138 (fun _ h => h) dX5_does_317 hp65 (fun v51 hp66 => ?_)
        refine x_pc (pc' := 320) rfl ?_
        obtain ⟨b52, rfl, hp67⟩ := hp66
        refine x_callVX (em := emI) (fun r st => .int r :: st) (fun _ _ => rfl) 2 X (kX2 hG) (fun σ' KK KX h => R_X2_shapes l hl G hG b52 v50 v51 σ' KK KX h) (lw_V q2547 q2548 q2549 q100 q2550) ⟨rfl, mdX2_shapes⟩ ⟨Nat.le_of_ble_eq_true rfl, Nat.le_of_ble_eq_true rfl⟩ rfl rfl (Nat.le_of_ble_eq_true rfl) dX5_does_320 hp67.1 hp67.2 (fun v53 σ54 hpA320 => ?_) (fun q55 σ56 hpB320 => ?_)
        · have hp68 := hpA320
          refine x_pc (pc' := 323) rfl ?_
          refine x_vx ?_; exact x_iret X hr rfl dX5_does_323 hp68
        · have hp69 := hpB320
          obtain ⟨hq320, hp70⟩ := hp69
          obtain ⟨hr320, hp71⟩ := hp70
          exact x_out X (kX6 hG) (hout 320) hr320 hq320 hp71
      have hp72 := hp63.2 c196_7
      refine x_up (pc' := 324) (fun _ _ _ _ _ L => lv_tableOut (tgt := 324) hx hb dX5_does_196 (x_tabOut 0 8 (by decide) (by decide) (by decide) (lt_s (lt_s (lt_s (lt_s (lt_s (lt_s (lt_s (lt_s lt_0 c196_0) c196_1) c196_2) c196_3) c196_4) c196_5) c196_6) c196_7)) (by decide)) ?_
      refine x_up (pc' := 325) (fun _ _ _ _ _ L => lv_aloadq_n hx hb dX5_does_324 rfl (lv_at L 3 rfl)) ?_
      refine x_up (pc' := 326) (fun _ _ _ _ _ L => lv_aload_n hx hb dX5_does_325 rfl (lv_at L 2 rfl)) ?_
      refine x_gi X (kX5 hG) 1 (by decide) q2137 (fun _ h => h) dX5_does_326 hp72 (fun v57 hp73 => ?_)
      refine x_pc (pc' := 329) rfl ?_
      obtain ⟨b58, rfl, hp74⟩ := hp73
      refine x_callVX (em := emI) (fun r st => .int r :: st) (fun _ _ => rfl) 1 X (kX2 hG) (fun σ' KK KX h => R_X2_rules l hl G hG b58 v57 σ' KK KX h) (lw_V q2551 q2552 q2553 q100 q2554) ⟨rfl, mdX2_rules⟩ ⟨Nat.le_of_ble_eq_true rfl, Nat.le_of_ble_eq_true rfl⟩ rfl rfl (Nat.le_of_ble_eq_true rfl) dX5_does_329 hp74.1 hp74.2 (fun v59 σ60 hpA329 => ?_) (fun q61 σ62 hpB329 => ?_)
      · have hp75 := hpA329
        refine x_pc (pc' := 332) rfl ?_
        refine x_vx ?_; exact x_iret X hr rfl dX5_does_332 hp75
      · have hp76 := hpB329
        obtain ⟨hq329, hp77⟩ := hp76
        obtain ⟨hr329, hp78⟩ := hp77
        exact x_out X (kX6 hG) (hout 329) hr329 hq329 hp78
    · have hp79 := hp5.2 c160
      refine x_up (pc' := 164) (fun _ _ _ _ _ L => lv_iconst (v := (5 : Int32)) hx hb dX5_does_163 (by decide)) ?_
      refine x_upL (pc' := 165) (lo' := [(3, .int (5 : Int32)), (2, .ref b2), (0, .ref a0), (1, va_rf x1)]) (fun _ _ _ _ _ L => lv_istore_n hx hb dX5_does_164 rfl L (by decide) rfl) ?_
      refine x_up (pc' := 195) (fun _ _ _ _ _ L => lv_goto (tgt := 195) hx hb dX5_does_165 (by decide)) ?_
      refine x_up (pc' := 196) (fun _ _ _ _ _ L => lv_iload_n hx hb dX5_does_195 rfl (lv_at L 0 rfl)) ?_
      by_cases c196_0 : (5 : Int32) = (0 : Int32)
      · have hp80 := hp79.1 c196_0
        refine x_up (pc' := 244) (fun _ _ _ _ _ L => lv_tableIn (off := 48) (tgt := 244) hx hb dX5_does_196 (by rw [c196_0]; decide) (by rw [c196_0]; decide) (by rw [c196_0]; rfl) (by decide)) ?_
        refine x_up (pc' := 245) (fun _ _ _ _ _ L => lv_aloadq_n hx hb dX5_does_244 rfl (lv_at L 3 rfl)) ?_
        refine x_up (pc' := 246) (fun _ _ _ _ _ L => lv_aload_n hx hb dX5_does_245 rfl (lv_at L 2 rfl)) ?_
        refine x_gi X (kX5 hG) 1 (by decide) q2137 (fun _ h => h) dX5_does_246 hp80 (fun v63 hp81 => ?_)
        refine x_pc (pc' := 249) rfl ?_
        obtain ⟨b64, rfl, hp82⟩ := hp81
        refine x_callVX (em := emI) (fun r st => .int r :: st) (fun _ _ => rfl) 1 X (kX2 hG) (fun σ' KK KX h => R_X2_readsWord l hl G hG b64 v63 σ' KK KX h) (lw_V q2225 q2226 q2227 q100 q2228) ⟨rfl, mdX2_readsWord⟩ ⟨Nat.le_of_ble_eq_true rfl, Nat.le_of_ble_eq_true rfl⟩ rfl rfl (Nat.le_of_ble_eq_true rfl) dX5_does_249 hp82.1 hp82.2 (fun v65 σ66 hpA249 => ?_) (fun q67 σ68 hpB249 => ?_)
        · have hp83 := hpA249
          refine x_pc (pc' := 252) rfl ?_
          refine x_vx ?_; exact x_iret X hr rfl dX5_does_252 hp83
        · have hp84 := hpB249
          obtain ⟨hq249, hp85⟩ := hp84
          obtain ⟨hr249, hp86⟩ := hp85
          exact x_out X (kX6 hG) (hout 249) hr249 hq249 hp86
      have hp87 := hp79.2 c196_0
      by_cases c196_1 : (5 : Int32) = (1 : Int32)
      · have hp88 := hp87.1 c196_1
        refine x_up (pc' := 253) (fun _ _ _ _ _ L => lv_tableIn (off := 57) (tgt := 253) hx hb dX5_does_196 (by rw [c196_1]; decide) (by rw [c196_1]; decide) (by rw [c196_1]; rfl) (by decide)) ?_
        refine x_up (pc' := 254) (fun _ _ _ _ _ L => lv_aloadq_n hx hb dX5_does_253 rfl (lv_at L 3 rfl)) ?_
        refine x_up (pc' := 255) (fun _ _ _ _ _ L => lv_aload_n hx hb dX5_does_254 rfl (lv_at L 2 rfl)) ?_
        refine x_gi X (kX5 hG) 1 (by decide) q2137 (fun _ h => h) dX5_does_255 hp88 (fun v69 hp89 => ?_)
        refine x_pc (pc' := 258) rfl ?_
        refine x_up (pc' := 259) (fun _ _ _ _ _ L => lv_aload_n hx hb dX5_does_258 rfl (lv_at L 2 rfl)) ?_
        refine x_gi X (kX5 hG) 2 (by decide) q2138 (fun _ h => h) dX5_does_259 hp89 (fun v70 hp90 => ?_)
        refine x_pc (pc' := 262) rfl ?_
        obtain ⟨b71, rfl, hp91⟩ := hp90
        refine x_callVX (em := emI) (fun r st => .int r :: st) (fun _ _ => rfl) 2 X (kX2 hG) (fun σ' KK KX h => R_X2_writesWord l hl G hG b71 v69 v70 σ' KK KX h) (lw_V q2497 q2498 q2499 q100 q2500) ⟨rfl, mdX2_writesWord⟩ ⟨Nat.le_of_ble_eq_true rfl, Nat.le_of_ble_eq_true rfl⟩ rfl rfl (Nat.le_of_ble_eq_true rfl) dX5_does_262 hp91.1 hp91.2 (fun v72 σ73 hpA262 => ?_) (fun q74 σ75 hpB262 => ?_)
        · have hp92 := hpA262
          refine x_pc (pc' := 265) rfl ?_
          refine x_vx ?_; exact x_iret X hr rfl dX5_does_265 hp92
        · have hp93 := hpB262
          obtain ⟨hq262, hp94⟩ := hp93
          obtain ⟨hr262, hp95⟩ := hp94
          exact x_out X (kX6 hG) (hout 262) hr262 hq262 hp95
      have hp96 := hp87.2 c196_1
      by_cases c196_2 : (5 : Int32) = (2 : Int32)
      · have hp97 := hp96.1 c196_2
        refine x_up (pc' := 266) (fun _ _ _ _ _ L => lv_tableIn (off := 70) (tgt := 266) hx hb dX5_does_196 (by rw [c196_2]; decide) (by rw [c196_2]; decide) (by rw [c196_2]; rfl) (by decide)) ?_
        refine x_up (pc' := 267) (fun _ _ _ _ _ L => lv_aloadq_n hx hb dX5_does_266 rfl (lv_at L 3 rfl)) ?_
        refine x_up (pc' := 268) (fun _ _ _ _ _ L => lv_aload_n hx hb dX5_does_267 rfl (lv_at L 2 rfl)) ?_
        refine x_gi X (kX5 hG) 1 (by decide) q2137 (fun _ h => h) dX5_does_268 hp97 (fun v76 hp98 => ?_)
        refine x_pc (pc' := 271) rfl ?_
        obtain ⟨b77, rfl, hp99⟩ := hp98
        refine x_callVX (em := emI) (fun r st => .int r :: st) (fun _ _ => rfl) 1 X (kX2 hG) (fun σ' KK KX h => R_X2_pins l hl G hG b77 v76 σ' KK KX h) (lw_V q2509 q2510 q2511 q100 q2512) ⟨rfl, mdX2_pins⟩ ⟨Nat.le_of_ble_eq_true rfl, Nat.le_of_ble_eq_true rfl⟩ rfl rfl (Nat.le_of_ble_eq_true rfl) dX5_does_271 hp99.1 hp99.2 (fun v78 σ79 hpA271 => ?_) (fun q80 σ81 hpB271 => ?_)
        · have hp100 := hpA271
          refine x_pc (pc' := 274) rfl ?_
          refine x_vx ?_; exact x_iret X hr rfl dX5_does_274 hp100
        · have hp101 := hpB271
          obtain ⟨hq271, hp102⟩ := hp101
          obtain ⟨hr271, hp103⟩ := hp102
          exact x_out X (kX6 hG) (hout 271) hr271 hq271 hp103
      have hp104 := hp96.2 c196_2
      by_cases c196_3 : (5 : Int32) = (3 : Int32)
      · have hp105 := hp104.1 c196_3
        refine x_up (pc' := 275) (fun _ _ _ _ _ L => lv_tableIn (off := 79) (tgt := 275) hx hb dX5_does_196 (by rw [c196_3]; decide) (by rw [c196_3]; decide) (by rw [c196_3]; rfl) (by decide)) ?_
        refine x_up (pc' := 276) (fun _ _ _ _ _ L => lv_aloadq_n hx hb dX5_does_275 rfl (lv_at L 3 rfl)) ?_
        refine x_up (pc' := 277) (fun _ _ _ _ _ L => lv_aload_n hx hb dX5_does_276 rfl (lv_at L 2 rfl)) ?_
        refine x_gi X (kX5 hG) 1 (by decide) q2137 (fun _ h => h) dX5_does_277 hp105 (fun v82 hp106 => ?_)
        refine x_pc (pc' := 280) rfl ?_
        obtain ⟨b83, rfl, hp107⟩ := hp106
        refine x_callVX (em := emI) (fun r st => .int r :: st) (fun _ _ => rfl) 1 X (kX2 hG) (fun σ' KK KX h => R_X2_frees l hl G hG b83 v82 σ' KK KX h) (lw_V q2522 q2523 q2524 q100 q2525) ⟨rfl, mdX2_frees⟩ ⟨Nat.le_of_ble_eq_true rfl, Nat.le_of_ble_eq_true rfl⟩ rfl rfl (Nat.le_of_ble_eq_true rfl) dX5_does_280 hp107.1 hp107.2 (fun v84 σ85 hpA280 => ?_) (fun q86 σ87 hpB280 => ?_)
        · have hp108 := hpA280
          refine x_pc (pc' := 283) rfl ?_
          refine x_vx ?_; exact x_iret X hr rfl dX5_does_283 hp108
        · have hp109 := hpB280
          obtain ⟨hq280, hp110⟩ := hp109
          obtain ⟨hr280, hp111⟩ := hp110
          exact x_out X (kX6 hG) (hout 280) hr280 hq280 hp111
      have hp112 := hp104.2 c196_3
      by_cases c196_4 : (5 : Int32) = (4 : Int32)
      · have hp113 := hp112.1 c196_4
        refine x_up (pc' := 284) (fun _ _ _ _ _ L => lv_tableIn (off := 88) (tgt := 284) hx hb dX5_does_196 (by rw [c196_4]; decide) (by rw [c196_4]; decide) (by rw [c196_4]; rfl) (by decide)) ?_
        refine x_up (pc' := 285) (fun _ _ _ _ _ L => lv_aloadq_n hx hb dX5_does_284 rfl (lv_at L 3 rfl)) ?_
        obtain ⟨b88, rfl, hp114⟩ := hp113
        refine x_callVX (em := emI) (fun r st => .int r :: st) (fun _ _ => rfl) 0 X (kX2 hG) (fun σ' KK KX h => R_X2_flushes l hl G hG b88 σ' KK KX h) (lw_V q2526 q2527 q2528 q100 q2529) ⟨rfl, mdX2_flushes⟩ ⟨Nat.le_of_ble_eq_true rfl, Nat.le_of_ble_eq_true rfl⟩ rfl rfl (Nat.le_of_ble_eq_true rfl) dX5_does_285 hp114.1 hp114.2 (fun v89 σ90 hpA285 => ?_) (fun q91 σ92 hpB285 => ?_)
        · have hp115 := hpA285
          refine x_pc (pc' := 288) rfl ?_
          refine x_vx ?_; exact x_iret X hr rfl dX5_does_288 hp115
        · have hp116 := hpB285
          obtain ⟨hq285, hp117⟩ := hp116
          obtain ⟨hr285, hp118⟩ := hp117
          exact x_out X (kX6 hG) (hout 285) hr285 hq285 hp118
      have hp119 := hp112.2 c196_4
      by_cases c196_5 : (5 : Int32) = (5 : Int32)
      · have hp120 := hp119.1 c196_5
        refine x_up (pc' := 289) (fun _ _ _ _ _ L => lv_tableIn (off := 93) (tgt := 289) hx hb dX5_does_196 (by rw [c196_5]; decide) (by rw [c196_5]; decide) (by rw [c196_5]; rfl) (by decide)) ?_
        refine x_up (pc' := 290) (fun _ _ _ _ _ L => lv_aloadq_n hx hb dX5_does_289 rfl (lv_at L 3 rfl)) ?_
        refine x_up (pc' := 291) (fun _ _ _ _ _ L => lv_aload_n hx hb dX5_does_290 rfl (lv_at L 2 rfl)) ?_
        refine x_gi X (kX5 hG) 1 (by decide) q2137 (fun _ h => h) dX5_does_291 hp120 (fun v93 hp121 => ?_)
        refine x_pc (pc' := 294) rfl ?_
        refine x_up (pc' := 295) (fun _ _ _ _ _ L => lv_aload_n hx hb dX5_does_294 rfl (lv_at L 2 rfl)) ?_
        refine x_gi X (kX5 hG) 2 (by decide) q2138 (fun _ h => h) dX5_does_295 hp121 (fun v94 hp122 => ?_)
        refine x_pc (pc' := 298) rfl ?_
        obtain ⟨b95, rfl, hp123⟩ := hp122
        refine x_callVX (em := emI) (fun r st => .int r :: st) (fun _ _ => rfl) 2 X (kX2 hG) (fun σ' KK KX h => R_X2_deviceWrites l hl G hG b95 v93 v94 σ' KK KX h) (lw_V q2535 q2536 q2537 q100 q2538) ⟨rfl, mdX2_deviceWrites⟩ ⟨Nat.le_of_ble_eq_true rfl, Nat.le_of_ble_eq_true rfl⟩ rfl rfl (Nat.le_of_ble_eq_true rfl) dX5_does_298 hp123.1 hp123.2 (fun v96 σ97 hpA298 => ?_) (fun q98 σ99 hpB298 => ?_)
        · have hp124 := hpA298
          refine x_pc (pc' := 301) rfl ?_
          refine x_vx ?_; exact x_iret X hr rfl dX5_does_301 hp124
        · have hp125 := hpB298
          obtain ⟨hq298, hp126⟩ := hp125
          obtain ⟨hr298, hp127⟩ := hp126
          exact x_out X (kX6 hG) (hout 298) hr298 hq298 hp127
      have hp128 := hp119.2 c196_5
      by_cases c196_6 : (5 : Int32) = (6 : Int32)
      · have hp129 := hp128.1 c196_6
        refine x_up (pc' := 302) (fun _ _ _ _ _ L => lv_tableIn (off := 106) (tgt := 302) hx hb dX5_does_196 (by rw [c196_6]; decide) (by rw [c196_6]; decide) (by rw [c196_6]; rfl) (by decide)) ?_
        refine x_up (pc' := 303) (fun _ _ _ _ _ L => lv_aloadq_n hx hb dX5_does_302 rfl (lv_at L 3 rfl)) ?_
        refine x_up (pc' := 304) (fun _ _ _ _ _ L => lv_aload_n hx hb dX5_does_303 rfl (lv_at L 2 rfl)) ?_
        refine x_gi X (kX5 hG) 1 (by decide) q2137 (fun _ h => h) dX5_does_304 hp129 (fun v100 hp130 => ?_)
        refine x_pc (pc' := 307) rfl ?_
        obtain ⟨b101, rfl, hp131⟩ := hp130
        refine x_callVX (em := emI) (fun r st => .int r :: st) (fun _ _ => rfl) 1 X (kX2 hG) (fun σ' KK KX h => R_X2_waits l hl G hG b101 v100 σ' KK KX h) (lw_V q2543 q2544 q2545 q100 q2546) ⟨rfl, mdX2_waits⟩ ⟨Nat.le_of_ble_eq_true rfl, Nat.le_of_ble_eq_true rfl⟩ rfl rfl (Nat.le_of_ble_eq_true rfl) dX5_does_307 hp131.1 hp131.2 (fun v102 σ103 hpA307 => ?_) (fun q104 σ105 hpB307 => ?_)
        · have hp132 := hpA307
          refine x_pc (pc' := 310) rfl ?_
          refine x_vx ?_; exact x_iret X hr rfl dX5_does_310 hp132
        · have hp133 := hpB307
          obtain ⟨hq307, hp134⟩ := hp133
          obtain ⟨hr307, hp135⟩ := hp134
          exact x_out X (kX6 hG) (hout 307) hr307 hq307 hp135
      have hp136 := hp128.2 c196_6
      by_cases c196_7 : (5 : Int32) = (7 : Int32)
      · have hp137 := hp136.1 c196_7
        refine x_up (pc' := 311) (fun _ _ _ _ _ L => lv_tableIn (off := 115) (tgt := 311) hx hb dX5_does_196 (by rw [c196_7]; decide) (by rw [c196_7]; decide) (by rw [c196_7]; rfl) (by decide)) ?_
        refine x_up (pc' := 312) (fun _ _ _ _ _ L => lv_aloadq_n hx hb dX5_does_311 rfl (lv_at L 3 rfl)) ?_
        refine x_up (pc' := 313) (fun _ _ _ _ _ L => lv_aload_n hx hb dX5_does_312 rfl (lv_at L 2 rfl)) ?_
        refine x_gi X (kX5 hG) 1 (by decide) q2137 (fun _ h => h) dX5_does_313 hp137 (fun v106 hp138 => ?_)
        refine x_pc (pc' := 316) rfl ?_
        refine x_up (pc' := 317) (fun _ _ _ _ _ L => lv_aload_n hx hb dX5_does_316 rfl (lv_at L 2 rfl)) ?_
        refine x_gi X (kX5 hG) 2 (by decide) q2138 (fun _ h => h) dX5_does_317 hp138 (fun v107 hp139 => ?_)
        refine x_pc (pc' := 320) rfl ?_
        obtain ⟨b108, rfl, hp140⟩ := hp139
        refine x_callVX (em := emI) (fun r st => .int r :: st) (fun _ _ => rfl) 2 X (kX2 hG) (fun σ' KK KX h => R_X2_shapes l hl G hG b108 v106 v107 σ' KK KX h) (lw_V q2547 q2548 q2549 q100 q2550) ⟨rfl, mdX2_shapes⟩ ⟨Nat.le_of_ble_eq_true rfl, Nat.le_of_ble_eq_true rfl⟩ rfl rfl (Nat.le_of_ble_eq_true rfl) dX5_does_320 hp140.1 hp140.2 (fun v109 σ110 hpA320 => ?_) (fun q111 σ112 hpB320 => ?_)
        · have hp141 := hpA320
          refine x_pc (pc' := 323) rfl ?_
          refine x_vx ?_; exact x_iret X hr rfl dX5_does_323 hp141
        · have hp142 := hpB320
          obtain ⟨hq320, hp143⟩ := hp142
          obtain ⟨hr320, hp144⟩ := hp143
          exact x_out X (kX6 hG) (hout 320) hr320 hq320 hp144
      have hp145 := hp136.2 c196_7
      refine x_up (pc' := 324) (fun _ _ _ _ _ L => lv_tableOut (tgt := 324) hx hb dX5_does_196 (x_tabOut 0 8 (by decide) (by decide) (by decide) (lt_s (lt_s (lt_s (lt_s (lt_s (lt_s (lt_s (lt_s lt_0 c196_0) c196_1) c196_2) c196_3) c196_4) c196_5) c196_6) c196_7)) (by decide)) ?_
      refine x_up (pc' := 325) (fun _ _ _ _ _ L => lv_aloadq_n hx hb dX5_does_324 rfl (lv_at L 3 rfl)) ?_
      refine x_up (pc' := 326) (fun _ _ _ _ _ L => lv_aload_n hx hb dX5_does_325 rfl (lv_at L 2 rfl)) ?_
      refine x_gi X (kX5 hG) 1 (by decide) q2137 (fun _ h => h) dX5_does_326 hp145 (fun v113 hp146 => ?_)
      refine x_pc (pc' := 329) rfl ?_
      obtain ⟨b114, rfl, hp147⟩ := hp146
      refine x_callVX (em := emI) (fun r st => .int r :: st) (fun _ _ => rfl) 1 X (kX2 hG) (fun σ' KK KX h => R_X2_rules l hl G hG b114 v113 σ' KK KX h) (lw_V q2551 q2552 q2553 q100 q2554) ⟨rfl, mdX2_rules⟩ ⟨Nat.le_of_ble_eq_true rfl, Nat.le_of_ble_eq_true rfl⟩ rfl rfl (Nat.le_of_ble_eq_true rfl) dX5_does_329 hp147.1 hp147.2 (fun v115 σ116 hpA329 => ?_) (fun q117 σ118 hpB329 => ?_)
      · have hp148 := hpA329
        refine x_pc (pc' := 332) rfl ?_
        refine x_vx ?_; exact x_iret X hr rfl dX5_does_332 hp148
      · have hp149 := hpB329
        obtain ⟨hq329, hp150⟩ := hp149
        obtain ⟨hr329, hp151⟩ := hp150
        exact x_out X (kX6 hG) (hout 329) hr329 hq329 hp151
  have hp152 := hp3.2 c11_0
  by_cases c11_1 : v3 = (110997 : Int32)
  · have hp153 := hp152.1 c11_1
    refine x_up (pc' := 112) (fun _ _ _ _ _ L => lv_lookup (off := 101) (tgt := 112) hx hb dX5_does_11 (by decide) (by rw [c11_1]; rfl) (by decide)) ?_
    refine x_up (pc' := 113) (fun _ _ _ _ _ L => lv_aload_n hx hb dX5_does_112 rfl (lv_at L 1 rfl)) ?_
    refine x_ldcS (tx := "pin") (q := G.2 13) X (by simp [x_ss, RX5]) dX5_does_113 ?_
    refine x_pc (pc' := 115) rfl ?_
    refine x_callV (em := emI) (fun r st => .int r :: st) (fun _ _ => rfl) 1 X (kJ14 hG) (fun σ' KK h => R_J14_equals l hl G hG b2 (some (G.2 13)) σ' KK h) (lw_V q2217 q679 q3698 q117 q680) ⟨rfl, mdJ14_equals⟩ ⟨Nat.le_of_ble_eq_true rfl, Nat.le_of_ble_eq_true rfl⟩ rfl rfl (Nat.le_of_ble_eq_true rfl) dX5_does_115 hp153.1 hp153.2 (fun v119 σ120 hp154 => ?_)
    refine x_pc (pc' := 118) rfl ?_
    refine x_if (C := v119 = 0) (pt := 195) (pc' := 121) (fun _ _ _ _ _ => lv_if_eq (tgt := 195) hx hb dX5_does_118 (by decide)) (fun c118 => ?_) (fun c118 => ?_)
    · have hp155 := hp154.1 c118
      refine x_up (pc' := 196) (fun _ _ _ _ _ L => lv_iload_n hx hb dX5_does_195 rfl (lv_at L 0 rfl)) ?_
      by_cases c196_0 : (-1 : Int32) = (0 : Int32)
      · have hp156 := hp155.1 c196_0
        refine x_up (pc' := 244) (fun _ _ _ _ _ L => lv_tableIn (off := 48) (tgt := 244) hx hb dX5_does_196 (by rw [c196_0]; decide) (by rw [c196_0]; decide) (by rw [c196_0]; rfl) (by decide)) ?_
        refine x_up (pc' := 245) (fun _ _ _ _ _ L => lv_aloadq_n hx hb dX5_does_244 rfl (lv_at L 3 rfl)) ?_
        refine x_up (pc' := 246) (fun _ _ _ _ _ L => lv_aload_n hx hb dX5_does_245 rfl (lv_at L 2 rfl)) ?_
        refine x_gi X (kX5 hG) 1 (by decide) q2137 (fun _ h => h) dX5_does_246 hp156 (fun v121 hp157 => ?_)
        refine x_pc (pc' := 249) rfl ?_
        obtain ⟨b122, rfl, hp158⟩ := hp157
        refine x_callVX (em := emI) (fun r st => .int r :: st) (fun _ _ => rfl) 1 X (kX2 hG) (fun σ' KK KX h => R_X2_readsWord l hl G hG b122 v121 σ' KK KX h) (lw_V q2225 q2226 q2227 q100 q2228) ⟨rfl, mdX2_readsWord⟩ ⟨Nat.le_of_ble_eq_true rfl, Nat.le_of_ble_eq_true rfl⟩ rfl rfl (Nat.le_of_ble_eq_true rfl) dX5_does_249 hp158.1 hp158.2 (fun v123 σ124 hpA249 => ?_) (fun q125 σ126 hpB249 => ?_)
        · have hp159 := hpA249
          refine x_pc (pc' := 252) rfl ?_
          refine x_vx ?_; exact x_iret X hr rfl dX5_does_252 hp159
        · have hp160 := hpB249
          obtain ⟨hq249, hp161⟩ := hp160
          obtain ⟨hr249, hp162⟩ := hp161
          exact x_out X (kX6 hG) (hout 249) hr249 hq249 hp162
      have hp163 := hp155.2 c196_0
      by_cases c196_1 : (-1 : Int32) = (1 : Int32)
      · have hp164 := hp163.1 c196_1
        refine x_up (pc' := 253) (fun _ _ _ _ _ L => lv_tableIn (off := 57) (tgt := 253) hx hb dX5_does_196 (by rw [c196_1]; decide) (by rw [c196_1]; decide) (by rw [c196_1]; rfl) (by decide)) ?_
        refine x_up (pc' := 254) (fun _ _ _ _ _ L => lv_aloadq_n hx hb dX5_does_253 rfl (lv_at L 3 rfl)) ?_
        refine x_up (pc' := 255) (fun _ _ _ _ _ L => lv_aload_n hx hb dX5_does_254 rfl (lv_at L 2 rfl)) ?_
        refine x_gi X (kX5 hG) 1 (by decide) q2137 (fun _ h => h) dX5_does_255 hp164 (fun v127 hp165 => ?_)
        refine x_pc (pc' := 258) rfl ?_
        refine x_up (pc' := 259) (fun _ _ _ _ _ L => lv_aload_n hx hb dX5_does_258 rfl (lv_at L 2 rfl)) ?_
        refine x_gi X (kX5 hG) 2 (by decide) q2138 (fun _ h => h) dX5_does_259 hp165 (fun v128 hp166 => ?_)
        refine x_pc (pc' := 262) rfl ?_
        obtain ⟨b129, rfl, hp167⟩ := hp166
        refine x_callVX (em := emI) (fun r st => .int r :: st) (fun _ _ => rfl) 2 X (kX2 hG) (fun σ' KK KX h => R_X2_writesWord l hl G hG b129 v127 v128 σ' KK KX h) (lw_V q2497 q2498 q2499 q100 q2500) ⟨rfl, mdX2_writesWord⟩ ⟨Nat.le_of_ble_eq_true rfl, Nat.le_of_ble_eq_true rfl⟩ rfl rfl (Nat.le_of_ble_eq_true rfl) dX5_does_262 hp167.1 hp167.2 (fun v130 σ131 hpA262 => ?_) (fun q132 σ133 hpB262 => ?_)
        · have hp168 := hpA262
          refine x_pc (pc' := 265) rfl ?_
          refine x_vx ?_; exact x_iret X hr rfl dX5_does_265 hp168
        · have hp169 := hpB262
          obtain ⟨hq262, hp170⟩ := hp169
          obtain ⟨hr262, hp171⟩ := hp170
          exact x_out X (kX6 hG) (hout 262) hr262 hq262 hp171
      have hp172 := hp163.2 c196_1
      by_cases c196_2 : (-1 : Int32) = (2 : Int32)
      · have hp173 := hp172.1 c196_2
        refine x_up (pc' := 266) (fun _ _ _ _ _ L => lv_tableIn (off := 70) (tgt := 266) hx hb dX5_does_196 (by rw [c196_2]; decide) (by rw [c196_2]; decide) (by rw [c196_2]; rfl) (by decide)) ?_
        refine x_up (pc' := 267) (fun _ _ _ _ _ L => lv_aloadq_n hx hb dX5_does_266 rfl (lv_at L 3 rfl)) ?_
        refine x_up (pc' := 268) (fun _ _ _ _ _ L => lv_aload_n hx hb dX5_does_267 rfl (lv_at L 2 rfl)) ?_
        refine x_gi X (kX5 hG) 1 (by decide) q2137 (fun _ h => h) dX5_does_268 hp173 (fun v134 hp174 => ?_)
        refine x_pc (pc' := 271) rfl ?_
        obtain ⟨b135, rfl, hp175⟩ := hp174
        refine x_callVX (em := emI) (fun r st => .int r :: st) (fun _ _ => rfl) 1 X (kX2 hG) (fun σ' KK KX h => R_X2_pins l hl G hG b135 v134 σ' KK KX h) (lw_V q2509 q2510 q2511 q100 q2512) ⟨rfl, mdX2_pins⟩ ⟨Nat.le_of_ble_eq_true rfl, Nat.le_of_ble_eq_true rfl⟩ rfl rfl (Nat.le_of_ble_eq_true rfl) dX5_does_271 hp175.1 hp175.2 (fun v136 σ137 hpA271 => ?_) (fun q138 σ139 hpB271 => ?_)
        · have hp176 := hpA271
          refine x_pc (pc' := 274) rfl ?_
          refine x_vx ?_; exact x_iret X hr rfl dX5_does_274 hp176
        · have hp177 := hpB271
          obtain ⟨hq271, hp178⟩ := hp177
          obtain ⟨hr271, hp179⟩ := hp178
          exact x_out X (kX6 hG) (hout 271) hr271 hq271 hp179
      have hp180 := hp172.2 c196_2
      by_cases c196_3 : (-1 : Int32) = (3 : Int32)
      · have hp181 := hp180.1 c196_3
        refine x_up (pc' := 275) (fun _ _ _ _ _ L => lv_tableIn (off := 79) (tgt := 275) hx hb dX5_does_196 (by rw [c196_3]; decide) (by rw [c196_3]; decide) (by rw [c196_3]; rfl) (by decide)) ?_
        refine x_up (pc' := 276) (fun _ _ _ _ _ L => lv_aloadq_n hx hb dX5_does_275 rfl (lv_at L 3 rfl)) ?_
        refine x_up (pc' := 277) (fun _ _ _ _ _ L => lv_aload_n hx hb dX5_does_276 rfl (lv_at L 2 rfl)) ?_
        refine x_gi X (kX5 hG) 1 (by decide) q2137 (fun _ h => h) dX5_does_277 hp181 (fun v140 hp182 => ?_)
        refine x_pc (pc' := 280) rfl ?_
        obtain ⟨b141, rfl, hp183⟩ := hp182
        refine x_callVX (em := emI) (fun r st => .int r :: st) (fun _ _ => rfl) 1 X (kX2 hG) (fun σ' KK KX h => R_X2_frees l hl G hG b141 v140 σ' KK KX h) (lw_V q2522 q2523 q2524 q100 q2525) ⟨rfl, mdX2_frees⟩ ⟨Nat.le_of_ble_eq_true rfl, Nat.le_of_ble_eq_true rfl⟩ rfl rfl (Nat.le_of_ble_eq_true rfl) dX5_does_280 hp183.1 hp183.2 (fun v142 σ143 hpA280 => ?_) (fun q144 σ145 hpB280 => ?_)
        · have hp184 := hpA280
          refine x_pc (pc' := 283) rfl ?_
          refine x_vx ?_; exact x_iret X hr rfl dX5_does_283 hp184
        · have hp185 := hpB280
          obtain ⟨hq280, hp186⟩ := hp185
          obtain ⟨hr280, hp187⟩ := hp186
          exact x_out X (kX6 hG) (hout 280) hr280 hq280 hp187
      have hp188 := hp180.2 c196_3
      by_cases c196_4 : (-1 : Int32) = (4 : Int32)
      · have hp189 := hp188.1 c196_4
        refine x_up (pc' := 284) (fun _ _ _ _ _ L => lv_tableIn (off := 88) (tgt := 284) hx hb dX5_does_196 (by rw [c196_4]; decide) (by rw [c196_4]; decide) (by rw [c196_4]; rfl) (by decide)) ?_
        refine x_up (pc' := 285) (fun _ _ _ _ _ L => lv_aloadq_n hx hb dX5_does_284 rfl (lv_at L 3 rfl)) ?_
        obtain ⟨b146, rfl, hp190⟩ := hp189
        refine x_callVX (em := emI) (fun r st => .int r :: st) (fun _ _ => rfl) 0 X (kX2 hG) (fun σ' KK KX h => R_X2_flushes l hl G hG b146 σ' KK KX h) (lw_V q2526 q2527 q2528 q100 q2529) ⟨rfl, mdX2_flushes⟩ ⟨Nat.le_of_ble_eq_true rfl, Nat.le_of_ble_eq_true rfl⟩ rfl rfl (Nat.le_of_ble_eq_true rfl) dX5_does_285 hp190.1 hp190.2 (fun v147 σ148 hpA285 => ?_) (fun q149 σ150 hpB285 => ?_)
        · have hp191 := hpA285
          refine x_pc (pc' := 288) rfl ?_
          refine x_vx ?_; exact x_iret X hr rfl dX5_does_288 hp191
        · have hp192 := hpB285
          obtain ⟨hq285, hp193⟩ := hp192
          obtain ⟨hr285, hp194⟩ := hp193
          exact x_out X (kX6 hG) (hout 285) hr285 hq285 hp194
      have hp195 := hp188.2 c196_4
      by_cases c196_5 : (-1 : Int32) = (5 : Int32)
      · have hp196 := hp195.1 c196_5
        refine x_up (pc' := 289) (fun _ _ _ _ _ L => lv_tableIn (off := 93) (tgt := 289) hx hb dX5_does_196 (by rw [c196_5]; decide) (by rw [c196_5]; decide) (by rw [c196_5]; rfl) (by decide)) ?_
        refine x_up (pc' := 290) (fun _ _ _ _ _ L => lv_aloadq_n hx hb dX5_does_289 rfl (lv_at L 3 rfl)) ?_
        refine x_up (pc' := 291) (fun _ _ _ _ _ L => lv_aload_n hx hb dX5_does_290 rfl (lv_at L 2 rfl)) ?_
        refine x_gi X (kX5 hG) 1 (by decide) q2137 (fun _ h => h) dX5_does_291 hp196 (fun v151 hp197 => ?_)
        refine x_pc (pc' := 294) rfl ?_
        refine x_up (pc' := 295) (fun _ _ _ _ _ L => lv_aload_n hx hb dX5_does_294 rfl (lv_at L 2 rfl)) ?_
        refine x_gi X (kX5 hG) 2 (by decide) q2138 (fun _ h => h) dX5_does_295 hp197 (fun v152 hp198 => ?_)
        refine x_pc (pc' := 298) rfl ?_
        obtain ⟨b153, rfl, hp199⟩ := hp198
        refine x_callVX (em := emI) (fun r st => .int r :: st) (fun _ _ => rfl) 2 X (kX2 hG) (fun σ' KK KX h => R_X2_deviceWrites l hl G hG b153 v151 v152 σ' KK KX h) (lw_V q2535 q2536 q2537 q100 q2538) ⟨rfl, mdX2_deviceWrites⟩ ⟨Nat.le_of_ble_eq_true rfl, Nat.le_of_ble_eq_true rfl⟩ rfl rfl (Nat.le_of_ble_eq_true rfl) dX5_does_298 hp199.1 hp199.2 (fun v154 σ155 hpA298 => ?_) (fun q156 σ157 hpB298 => ?_)
        · have hp200 := hpA298
          refine x_pc (pc' := 301) rfl ?_
          refine x_vx ?_; exact x_iret X hr rfl dX5_does_301 hp200
        · have hp201 := hpB298
          obtain ⟨hq298, hp202⟩ := hp201
          obtain ⟨hr298, hp203⟩ := hp202
          exact x_out X (kX6 hG) (hout 298) hr298 hq298 hp203
      have hp204 := hp195.2 c196_5
      by_cases c196_6 : (-1 : Int32) = (6 : Int32)
      · have hp205 := hp204.1 c196_6
        refine x_up (pc' := 302) (fun _ _ _ _ _ L => lv_tableIn (off := 106) (tgt := 302) hx hb dX5_does_196 (by rw [c196_6]; decide) (by rw [c196_6]; decide) (by rw [c196_6]; rfl) (by decide)) ?_
        refine x_up (pc' := 303) (fun _ _ _ _ _ L => lv_aloadq_n hx hb dX5_does_302 rfl (lv_at L 3 rfl)) ?_
        refine x_up (pc' := 304) (fun _ _ _ _ _ L => lv_aload_n hx hb dX5_does_303 rfl (lv_at L 2 rfl)) ?_
        refine x_gi X (kX5 hG) 1 (by decide) q2137 (fun _ h => h) dX5_does_304 hp205 (fun v158 hp206 => ?_)
        refine x_pc (pc' := 307) rfl ?_
        obtain ⟨b159, rfl, hp207⟩ := hp206
        refine x_callVX (em := emI) (fun r st => .int r :: st) (fun _ _ => rfl) 1 X (kX2 hG) (fun σ' KK KX h => R_X2_waits l hl G hG b159 v158 σ' KK KX h) (lw_V q2543 q2544 q2545 q100 q2546) ⟨rfl, mdX2_waits⟩ ⟨Nat.le_of_ble_eq_true rfl, Nat.le_of_ble_eq_true rfl⟩ rfl rfl (Nat.le_of_ble_eq_true rfl) dX5_does_307 hp207.1 hp207.2 (fun v160 σ161 hpA307 => ?_) (fun q162 σ163 hpB307 => ?_)
        · have hp208 := hpA307
          refine x_pc (pc' := 310) rfl ?_
          refine x_vx ?_; exact x_iret X hr rfl dX5_does_310 hp208
        · have hp209 := hpB307
          obtain ⟨hq307, hp210⟩ := hp209
          obtain ⟨hr307, hp211⟩ := hp210
          exact x_out X (kX6 hG) (hout 307) hr307 hq307 hp211
      have hp212 := hp204.2 c196_6
      by_cases c196_7 : (-1 : Int32) = (7 : Int32)
      · have hp213 := hp212.1 c196_7
        refine x_up (pc' := 311) (fun _ _ _ _ _ L => lv_tableIn (off := 115) (tgt := 311) hx hb dX5_does_196 (by rw [c196_7]; decide) (by rw [c196_7]; decide) (by rw [c196_7]; rfl) (by decide)) ?_
        refine x_up (pc' := 312) (fun _ _ _ _ _ L => lv_aloadq_n hx hb dX5_does_311 rfl (lv_at L 3 rfl)) ?_
        refine x_up (pc' := 313) (fun _ _ _ _ _ L => lv_aload_n hx hb dX5_does_312 rfl (lv_at L 2 rfl)) ?_
        refine x_gi X (kX5 hG) 1 (by decide) q2137 (fun _ h => h) dX5_does_313 hp213 (fun v164 hp214 => ?_)
        refine x_pc (pc' := 316) rfl ?_
        refine x_up (pc' := 317) (fun _ _ _ _ _ L => lv_aload_n hx hb dX5_does_316 rfl (lv_at L 2 rfl)) ?_
        refine x_gi X (kX5 hG) 2 (by decide) q2138 (fun _ h => h) dX5_does_317 hp214 (fun v165 hp215 => ?_)
        refine x_pc (pc' := 320) rfl ?_
        obtain ⟨b166, rfl, hp216⟩ := hp215
        refine x_callVX (em := emI) (fun r st => .int r :: st) (fun _ _ => rfl) 2 X (kX2 hG) (fun σ' KK KX h => R_X2_shapes l hl G hG b166 v164 v165 σ' KK KX h) (lw_V q2547 q2548 q2549 q100 q2550) ⟨rfl, mdX2_shapes⟩ ⟨Nat.le_of_ble_eq_true rfl, Nat.le_of_ble_eq_true rfl⟩ rfl rfl (Nat.le_of_ble_eq_true rfl) dX5_does_320 hp216.1 hp216.2 (fun v167 σ168 hpA320 => ?_) (fun q169 σ170 hpB320 => ?_)
        · have hp217 := hpA320
          refine x_pc (pc' := 323) rfl ?_
          refine x_vx ?_; exact x_iret X hr rfl dX5_does_323 hp217
        · have hp218 := hpB320
          obtain ⟨hq320, hp219⟩ := hp218
          obtain ⟨hr320, hp220⟩ := hp219
          exact x_out X (kX6 hG) (hout 320) hr320 hq320 hp220
      have hp221 := hp212.2 c196_7
      refine x_up (pc' := 324) (fun _ _ _ _ _ L => lv_tableOut (tgt := 324) hx hb dX5_does_196 (x_tabOut 0 8 (by decide) (by decide) (by decide) (lt_s (lt_s (lt_s (lt_s (lt_s (lt_s (lt_s (lt_s lt_0 c196_0) c196_1) c196_2) c196_3) c196_4) c196_5) c196_6) c196_7)) (by decide)) ?_
      refine x_up (pc' := 325) (fun _ _ _ _ _ L => lv_aloadq_n hx hb dX5_does_324 rfl (lv_at L 3 rfl)) ?_
      refine x_up (pc' := 326) (fun _ _ _ _ _ L => lv_aload_n hx hb dX5_does_325 rfl (lv_at L 2 rfl)) ?_
      refine x_gi X (kX5 hG) 1 (by decide) q2137 (fun _ h => h) dX5_does_326 hp221 (fun v171 hp222 => ?_)
      refine x_pc (pc' := 329) rfl ?_
      obtain ⟨b172, rfl, hp223⟩ := hp222
      refine x_callVX (em := emI) (fun r st => .int r :: st) (fun _ _ => rfl) 1 X (kX2 hG) (fun σ' KK KX h => R_X2_rules l hl G hG b172 v171 σ' KK KX h) (lw_V q2551 q2552 q2553 q100 q2554) ⟨rfl, mdX2_rules⟩ ⟨Nat.le_of_ble_eq_true rfl, Nat.le_of_ble_eq_true rfl⟩ rfl rfl (Nat.le_of_ble_eq_true rfl) dX5_does_329 hp223.1 hp223.2 (fun v173 σ174 hpA329 => ?_) (fun q175 σ176 hpB329 => ?_)
      · have hp224 := hpA329
        refine x_pc (pc' := 332) rfl ?_
        refine x_vx ?_; exact x_iret X hr rfl dX5_does_332 hp224
      · have hp225 := hpB329
        obtain ⟨hq329, hp226⟩ := hp225
        obtain ⟨hr329, hp227⟩ := hp226
        exact x_out X (kX6 hG) (hout 329) hr329 hq329 hp227
    · have hp228 := hp154.2 c118
      refine x_up (pc' := 122) (fun _ _ _ _ _ L => lv_iconst (v := (2 : Int32)) hx hb dX5_does_121 (by decide)) ?_
      refine x_upL (pc' := 123) (lo' := [(3, .int (2 : Int32)), (2, .ref b2), (0, .ref a0), (1, va_rf x1)]) (fun _ _ _ _ _ L => lv_istore_n hx hb dX5_does_122 rfl L (by decide) rfl) ?_
      refine x_up (pc' := 195) (fun _ _ _ _ _ L => lv_goto (tgt := 195) hx hb dX5_does_123 (by decide)) ?_
      refine x_up (pc' := 196) (fun _ _ _ _ _ L => lv_iload_n hx hb dX5_does_195 rfl (lv_at L 0 rfl)) ?_
      by_cases c196_0 : (2 : Int32) = (0 : Int32)
      · have hp229 := hp228.1 c196_0
        refine x_up (pc' := 244) (fun _ _ _ _ _ L => lv_tableIn (off := 48) (tgt := 244) hx hb dX5_does_196 (by rw [c196_0]; decide) (by rw [c196_0]; decide) (by rw [c196_0]; rfl) (by decide)) ?_
        refine x_up (pc' := 245) (fun _ _ _ _ _ L => lv_aloadq_n hx hb dX5_does_244 rfl (lv_at L 3 rfl)) ?_
        refine x_up (pc' := 246) (fun _ _ _ _ _ L => lv_aload_n hx hb dX5_does_245 rfl (lv_at L 2 rfl)) ?_
        refine x_gi X (kX5 hG) 1 (by decide) q2137 (fun _ h => h) dX5_does_246 hp229 (fun v177 hp230 => ?_)
        refine x_pc (pc' := 249) rfl ?_
        obtain ⟨b178, rfl, hp231⟩ := hp230
        refine x_callVX (em := emI) (fun r st => .int r :: st) (fun _ _ => rfl) 1 X (kX2 hG) (fun σ' KK KX h => R_X2_readsWord l hl G hG b178 v177 σ' KK KX h) (lw_V q2225 q2226 q2227 q100 q2228) ⟨rfl, mdX2_readsWord⟩ ⟨Nat.le_of_ble_eq_true rfl, Nat.le_of_ble_eq_true rfl⟩ rfl rfl (Nat.le_of_ble_eq_true rfl) dX5_does_249 hp231.1 hp231.2 (fun v179 σ180 hpA249 => ?_) (fun q181 σ182 hpB249 => ?_)
        · have hp232 := hpA249
          refine x_pc (pc' := 252) rfl ?_
          refine x_vx ?_; exact x_iret X hr rfl dX5_does_252 hp232
        · have hp233 := hpB249
          obtain ⟨hq249, hp234⟩ := hp233
          obtain ⟨hr249, hp235⟩ := hp234
          exact x_out X (kX6 hG) (hout 249) hr249 hq249 hp235
      have hp236 := hp228.2 c196_0
      by_cases c196_1 : (2 : Int32) = (1 : Int32)
      · have hp237 := hp236.1 c196_1
        refine x_up (pc' := 253) (fun _ _ _ _ _ L => lv_tableIn (off := 57) (tgt := 253) hx hb dX5_does_196 (by rw [c196_1]; decide) (by rw [c196_1]; decide) (by rw [c196_1]; rfl) (by decide)) ?_
        refine x_up (pc' := 254) (fun _ _ _ _ _ L => lv_aloadq_n hx hb dX5_does_253 rfl (lv_at L 3 rfl)) ?_
        refine x_up (pc' := 255) (fun _ _ _ _ _ L => lv_aload_n hx hb dX5_does_254 rfl (lv_at L 2 rfl)) ?_
        refine x_gi X (kX5 hG) 1 (by decide) q2137 (fun _ h => h) dX5_does_255 hp237 (fun v183 hp238 => ?_)
        refine x_pc (pc' := 258) rfl ?_
        refine x_up (pc' := 259) (fun _ _ _ _ _ L => lv_aload_n hx hb dX5_does_258 rfl (lv_at L 2 rfl)) ?_
        refine x_gi X (kX5 hG) 2 (by decide) q2138 (fun _ h => h) dX5_does_259 hp238 (fun v184 hp239 => ?_)
        refine x_pc (pc' := 262) rfl ?_
        obtain ⟨b185, rfl, hp240⟩ := hp239
        refine x_callVX (em := emI) (fun r st => .int r :: st) (fun _ _ => rfl) 2 X (kX2 hG) (fun σ' KK KX h => R_X2_writesWord l hl G hG b185 v183 v184 σ' KK KX h) (lw_V q2497 q2498 q2499 q100 q2500) ⟨rfl, mdX2_writesWord⟩ ⟨Nat.le_of_ble_eq_true rfl, Nat.le_of_ble_eq_true rfl⟩ rfl rfl (Nat.le_of_ble_eq_true rfl) dX5_does_262 hp240.1 hp240.2 (fun v186 σ187 hpA262 => ?_) (fun q188 σ189 hpB262 => ?_)
        · have hp241 := hpA262
          refine x_pc (pc' := 265) rfl ?_
          refine x_vx ?_; exact x_iret X hr rfl dX5_does_265 hp241
        · have hp242 := hpB262
          obtain ⟨hq262, hp243⟩ := hp242
          obtain ⟨hr262, hp244⟩ := hp243
          exact x_out X (kX6 hG) (hout 262) hr262 hq262 hp244
      have hp245 := hp236.2 c196_1
      by_cases c196_2 : (2 : Int32) = (2 : Int32)
      · have hp246 := hp245.1 c196_2
        refine x_up (pc' := 266) (fun _ _ _ _ _ L => lv_tableIn (off := 70) (tgt := 266) hx hb dX5_does_196 (by rw [c196_2]; decide) (by rw [c196_2]; decide) (by rw [c196_2]; rfl) (by decide)) ?_
        refine x_up (pc' := 267) (fun _ _ _ _ _ L => lv_aloadq_n hx hb dX5_does_266 rfl (lv_at L 3 rfl)) ?_
        refine x_up (pc' := 268) (fun _ _ _ _ _ L => lv_aload_n hx hb dX5_does_267 rfl (lv_at L 2 rfl)) ?_
        refine x_gi X (kX5 hG) 1 (by decide) q2137 (fun _ h => h) dX5_does_268 hp246 (fun v190 hp247 => ?_)
        refine x_pc (pc' := 271) rfl ?_
        obtain ⟨b191, rfl, hp248⟩ := hp247
        refine x_callVX (em := emI) (fun r st => .int r :: st) (fun _ _ => rfl) 1 X (kX2 hG) (fun σ' KK KX h => R_X2_pins l hl G hG b191 v190 σ' KK KX h) (lw_V q2509 q2510 q2511 q100 q2512) ⟨rfl, mdX2_pins⟩ ⟨Nat.le_of_ble_eq_true rfl, Nat.le_of_ble_eq_true rfl⟩ rfl rfl (Nat.le_of_ble_eq_true rfl) dX5_does_271 hp248.1 hp248.2 (fun v192 σ193 hpA271 => ?_) (fun q194 σ195 hpB271 => ?_)
        · have hp249 := hpA271
          refine x_pc (pc' := 274) rfl ?_
          refine x_vx ?_; exact x_iret X hr rfl dX5_does_274 hp249
        · have hp250 := hpB271
          obtain ⟨hq271, hp251⟩ := hp250
          obtain ⟨hr271, hp252⟩ := hp251
          exact x_out X (kX6 hG) (hout 271) hr271 hq271 hp252
      have hp253 := hp245.2 c196_2
      by_cases c196_3 : (2 : Int32) = (3 : Int32)
      · have hp254 := hp253.1 c196_3
        refine x_up (pc' := 275) (fun _ _ _ _ _ L => lv_tableIn (off := 79) (tgt := 275) hx hb dX5_does_196 (by rw [c196_3]; decide) (by rw [c196_3]; decide) (by rw [c196_3]; rfl) (by decide)) ?_
        refine x_up (pc' := 276) (fun _ _ _ _ _ L => lv_aloadq_n hx hb dX5_does_275 rfl (lv_at L 3 rfl)) ?_
        refine x_up (pc' := 277) (fun _ _ _ _ _ L => lv_aload_n hx hb dX5_does_276 rfl (lv_at L 2 rfl)) ?_
        refine x_gi X (kX5 hG) 1 (by decide) q2137 (fun _ h => h) dX5_does_277 hp254 (fun v196 hp255 => ?_)
        refine x_pc (pc' := 280) rfl ?_
        obtain ⟨b197, rfl, hp256⟩ := hp255
        refine x_callVX (em := emI) (fun r st => .int r :: st) (fun _ _ => rfl) 1 X (kX2 hG) (fun σ' KK KX h => R_X2_frees l hl G hG b197 v196 σ' KK KX h) (lw_V q2522 q2523 q2524 q100 q2525) ⟨rfl, mdX2_frees⟩ ⟨Nat.le_of_ble_eq_true rfl, Nat.le_of_ble_eq_true rfl⟩ rfl rfl (Nat.le_of_ble_eq_true rfl) dX5_does_280 hp256.1 hp256.2 (fun v198 σ199 hpA280 => ?_) (fun q200 σ201 hpB280 => ?_)
        · have hp257 := hpA280
          refine x_pc (pc' := 283) rfl ?_
          refine x_vx ?_; exact x_iret X hr rfl dX5_does_283 hp257
        · have hp258 := hpB280
          obtain ⟨hq280, hp259⟩ := hp258
          obtain ⟨hr280, hp260⟩ := hp259
          exact x_out X (kX6 hG) (hout 280) hr280 hq280 hp260
      have hp261 := hp253.2 c196_3
      by_cases c196_4 : (2 : Int32) = (4 : Int32)
      · have hp262 := hp261.1 c196_4
        refine x_up (pc' := 284) (fun _ _ _ _ _ L => lv_tableIn (off := 88) (tgt := 284) hx hb dX5_does_196 (by rw [c196_4]; decide) (by rw [c196_4]; decide) (by rw [c196_4]; rfl) (by decide)) ?_
        refine x_up (pc' := 285) (fun _ _ _ _ _ L => lv_aloadq_n hx hb dX5_does_284 rfl (lv_at L 3 rfl)) ?_
        obtain ⟨b202, rfl, hp263⟩ := hp262
        refine x_callVX (em := emI) (fun r st => .int r :: st) (fun _ _ => rfl) 0 X (kX2 hG) (fun σ' KK KX h => R_X2_flushes l hl G hG b202 σ' KK KX h) (lw_V q2526 q2527 q2528 q100 q2529) ⟨rfl, mdX2_flushes⟩ ⟨Nat.le_of_ble_eq_true rfl, Nat.le_of_ble_eq_true rfl⟩ rfl rfl (Nat.le_of_ble_eq_true rfl) dX5_does_285 hp263.1 hp263.2 (fun v203 σ204 hpA285 => ?_) (fun q205 σ206 hpB285 => ?_)
        · have hp264 := hpA285
          refine x_pc (pc' := 288) rfl ?_
          refine x_vx ?_; exact x_iret X hr rfl dX5_does_288 hp264
        · have hp265 := hpB285
          obtain ⟨hq285, hp266⟩ := hp265
          obtain ⟨hr285, hp267⟩ := hp266
          exact x_out X (kX6 hG) (hout 285) hr285 hq285 hp267
      have hp268 := hp261.2 c196_4
      by_cases c196_5 : (2 : Int32) = (5 : Int32)
      · have hp269 := hp268.1 c196_5
        refine x_up (pc' := 289) (fun _ _ _ _ _ L => lv_tableIn (off := 93) (tgt := 289) hx hb dX5_does_196 (by rw [c196_5]; decide) (by rw [c196_5]; decide) (by rw [c196_5]; rfl) (by decide)) ?_
        refine x_up (pc' := 290) (fun _ _ _ _ _ L => lv_aloadq_n hx hb dX5_does_289 rfl (lv_at L 3 rfl)) ?_
        refine x_up (pc' := 291) (fun _ _ _ _ _ L => lv_aload_n hx hb dX5_does_290 rfl (lv_at L 2 rfl)) ?_
        refine x_gi X (kX5 hG) 1 (by decide) q2137 (fun _ h => h) dX5_does_291 hp269 (fun v207 hp270 => ?_)
        refine x_pc (pc' := 294) rfl ?_
        refine x_up (pc' := 295) (fun _ _ _ _ _ L => lv_aload_n hx hb dX5_does_294 rfl (lv_at L 2 rfl)) ?_
        refine x_gi X (kX5 hG) 2 (by decide) q2138 (fun _ h => h) dX5_does_295 hp270 (fun v208 hp271 => ?_)
        refine x_pc (pc' := 298) rfl ?_
        obtain ⟨b209, rfl, hp272⟩ := hp271
        refine x_callVX (em := emI) (fun r st => .int r :: st) (fun _ _ => rfl) 2 X (kX2 hG) (fun σ' KK KX h => R_X2_deviceWrites l hl G hG b209 v207 v208 σ' KK KX h) (lw_V q2535 q2536 q2537 q100 q2538) ⟨rfl, mdX2_deviceWrites⟩ ⟨Nat.le_of_ble_eq_true rfl, Nat.le_of_ble_eq_true rfl⟩ rfl rfl (Nat.le_of_ble_eq_true rfl) dX5_does_298 hp272.1 hp272.2 (fun v210 σ211 hpA298 => ?_) (fun q212 σ213 hpB298 => ?_)
        · have hp273 := hpA298
          refine x_pc (pc' := 301) rfl ?_
          refine x_vx ?_; exact x_iret X hr rfl dX5_does_301 hp273
        · have hp274 := hpB298
          obtain ⟨hq298, hp275⟩ := hp274
          obtain ⟨hr298, hp276⟩ := hp275
          exact x_out X (kX6 hG) (hout 298) hr298 hq298 hp276
      have hp277 := hp268.2 c196_5
      by_cases c196_6 : (2 : Int32) = (6 : Int32)
      · have hp278 := hp277.1 c196_6
        refine x_up (pc' := 302) (fun _ _ _ _ _ L => lv_tableIn (off := 106) (tgt := 302) hx hb dX5_does_196 (by rw [c196_6]; decide) (by rw [c196_6]; decide) (by rw [c196_6]; rfl) (by decide)) ?_
        refine x_up (pc' := 303) (fun _ _ _ _ _ L => lv_aloadq_n hx hb dX5_does_302 rfl (lv_at L 3 rfl)) ?_
        refine x_up (pc' := 304) (fun _ _ _ _ _ L => lv_aload_n hx hb dX5_does_303 rfl (lv_at L 2 rfl)) ?_
        refine x_gi X (kX5 hG) 1 (by decide) q2137 (fun _ h => h) dX5_does_304 hp278 (fun v214 hp279 => ?_)
        refine x_pc (pc' := 307) rfl ?_
        obtain ⟨b215, rfl, hp280⟩ := hp279
        refine x_callVX (em := emI) (fun r st => .int r :: st) (fun _ _ => rfl) 1 X (kX2 hG) (fun σ' KK KX h => R_X2_waits l hl G hG b215 v214 σ' KK KX h) (lw_V q2543 q2544 q2545 q100 q2546) ⟨rfl, mdX2_waits⟩ ⟨Nat.le_of_ble_eq_true rfl, Nat.le_of_ble_eq_true rfl⟩ rfl rfl (Nat.le_of_ble_eq_true rfl) dX5_does_307 hp280.1 hp280.2 (fun v216 σ217 hpA307 => ?_) (fun q218 σ219 hpB307 => ?_)
        · have hp281 := hpA307
          refine x_pc (pc' := 310) rfl ?_
          refine x_vx ?_; exact x_iret X hr rfl dX5_does_310 hp281
        · have hp282 := hpB307
          obtain ⟨hq307, hp283⟩ := hp282
          obtain ⟨hr307, hp284⟩ := hp283
          exact x_out X (kX6 hG) (hout 307) hr307 hq307 hp284
      have hp285 := hp277.2 c196_6
      by_cases c196_7 : (2 : Int32) = (7 : Int32)
      · have hp286 := hp285.1 c196_7
        refine x_up (pc' := 311) (fun _ _ _ _ _ L => lv_tableIn (off := 115) (tgt := 311) hx hb dX5_does_196 (by rw [c196_7]; decide) (by rw [c196_7]; decide) (by rw [c196_7]; rfl) (by decide)) ?_
        refine x_up (pc' := 312) (fun _ _ _ _ _ L => lv_aloadq_n hx hb dX5_does_311 rfl (lv_at L 3 rfl)) ?_
        refine x_up (pc' := 313) (fun _ _ _ _ _ L => lv_aload_n hx hb dX5_does_312 rfl (lv_at L 2 rfl)) ?_
        refine x_gi X (kX5 hG) 1 (by decide) q2137 (fun _ h => h) dX5_does_313 hp286 (fun v220 hp287 => ?_)
        refine x_pc (pc' := 316) rfl ?_
        refine x_up (pc' := 317) (fun _ _ _ _ _ L => lv_aload_n hx hb dX5_does_316 rfl (lv_at L 2 rfl)) ?_
        refine x_gi X (kX5 hG) 2 (by decide) q2138 (fun _ h => h) dX5_does_317 hp287 (fun v221 hp288 => ?_)
        refine x_pc (pc' := 320) rfl ?_
        obtain ⟨b222, rfl, hp289⟩ := hp288
        refine x_callVX (em := emI) (fun r st => .int r :: st) (fun _ _ => rfl) 2 X (kX2 hG) (fun σ' KK KX h => R_X2_shapes l hl G hG b222 v220 v221 σ' KK KX h) (lw_V q2547 q2548 q2549 q100 q2550) ⟨rfl, mdX2_shapes⟩ ⟨Nat.le_of_ble_eq_true rfl, Nat.le_of_ble_eq_true rfl⟩ rfl rfl (Nat.le_of_ble_eq_true rfl) dX5_does_320 hp289.1 hp289.2 (fun v223 σ224 hpA320 => ?_) (fun q225 σ226 hpB320 => ?_)
        · have hp290 := hpA320
          refine x_pc (pc' := 323) rfl ?_
          refine x_vx ?_; exact x_iret X hr rfl dX5_does_323 hp290
        · have hp291 := hpB320
          obtain ⟨hq320, hp292⟩ := hp291
          obtain ⟨hr320, hp293⟩ := hp292
          exact x_out X (kX6 hG) (hout 320) hr320 hq320 hp293
      have hp294 := hp285.2 c196_7
      refine x_up (pc' := 324) (fun _ _ _ _ _ L => lv_tableOut (tgt := 324) hx hb dX5_does_196 (x_tabOut 0 8 (by decide) (by decide) (by decide) (lt_s (lt_s (lt_s (lt_s (lt_s (lt_s (lt_s (lt_s lt_0 c196_0) c196_1) c196_2) c196_3) c196_4) c196_5) c196_6) c196_7)) (by decide)) ?_
      refine x_up (pc' := 325) (fun _ _ _ _ _ L => lv_aloadq_n hx hb dX5_does_324 rfl (lv_at L 3 rfl)) ?_
      refine x_up (pc' := 326) (fun _ _ _ _ _ L => lv_aload_n hx hb dX5_does_325 rfl (lv_at L 2 rfl)) ?_
      refine x_gi X (kX5 hG) 1 (by decide) q2137 (fun _ h => h) dX5_does_326 hp294 (fun v227 hp295 => ?_)
      refine x_pc (pc' := 329) rfl ?_
      obtain ⟨b228, rfl, hp296⟩ := hp295
      refine x_callVX (em := emI) (fun r st => .int r :: st) (fun _ _ => rfl) 1 X (kX2 hG) (fun σ' KK KX h => R_X2_rules l hl G hG b228 v227 σ' KK KX h) (lw_V q2551 q2552 q2553 q100 q2554) ⟨rfl, mdX2_rules⟩ ⟨Nat.le_of_ble_eq_true rfl, Nat.le_of_ble_eq_true rfl⟩ rfl rfl (Nat.le_of_ble_eq_true rfl) dX5_does_329 hp296.1 hp296.2 (fun v229 σ230 hpA329 => ?_) (fun q231 σ232 hpB329 => ?_)
      · have hp297 := hpA329
        refine x_pc (pc' := 332) rfl ?_
        refine x_vx ?_; exact x_iret X hr rfl dX5_does_332 hp297
      · have hp298 := hpB329
        obtain ⟨hq329, hp299⟩ := hp298
        obtain ⟨hr329, hp300⟩ := hp299
        exact x_out X (kX6 hG) (hout 329) hr329 hq329 hp300
  have hp301 := hp152.2 c11_1
  by_cases c11_2 : v3 = (3151468 : Int32)
  · have hp302 := hp301.1 c11_2
    refine x_up (pc' := 126) (fun _ _ _ _ _ L => lv_lookup (off := 115) (tgt := 126) hx hb dX5_does_11 (by decide) (by rw [c11_2]; rfl) (by decide)) ?_
    refine x_up (pc' := 127) (fun _ _ _ _ _ L => lv_aload_n hx hb dX5_does_126 rfl (lv_at L 1 rfl)) ?_
    refine x_ldcS (tx := "free") (q := G.2 14) X (by simp [x_ss, RX5]) dX5_does_127 ?_
    refine x_pc (pc' := 129) rfl ?_
    refine x_callV (em := emI) (fun r st => .int r :: st) (fun _ _ => rfl) 1 X (kJ14 hG) (fun σ' KK h => R_J14_equals l hl G hG b2 (some (G.2 14)) σ' KK h) (lw_V q2217 q679 q3698 q117 q680) ⟨rfl, mdJ14_equals⟩ ⟨Nat.le_of_ble_eq_true rfl, Nat.le_of_ble_eq_true rfl⟩ rfl rfl (Nat.le_of_ble_eq_true rfl) dX5_does_129 hp302.1 hp302.2 (fun v233 σ234 hp303 => ?_)
    refine x_pc (pc' := 132) rfl ?_
    refine x_if (C := v233 = 0) (pt := 195) (pc' := 135) (fun _ _ _ _ _ => lv_if_eq (tgt := 195) hx hb dX5_does_132 (by decide)) (fun c132 => ?_) (fun c132 => ?_)
    · have hp304 := hp303.1 c132
      refine x_up (pc' := 196) (fun _ _ _ _ _ L => lv_iload_n hx hb dX5_does_195 rfl (lv_at L 0 rfl)) ?_
      by_cases c196_0 : (-1 : Int32) = (0 : Int32)
      · have hp305 := hp304.1 c196_0
        refine x_up (pc' := 244) (fun _ _ _ _ _ L => lv_tableIn (off := 48) (tgt := 244) hx hb dX5_does_196 (by rw [c196_0]; decide) (by rw [c196_0]; decide) (by rw [c196_0]; rfl) (by decide)) ?_
        refine x_up (pc' := 245) (fun _ _ _ _ _ L => lv_aloadq_n hx hb dX5_does_244 rfl (lv_at L 3 rfl)) ?_
        refine x_up (pc' := 246) (fun _ _ _ _ _ L => lv_aload_n hx hb dX5_does_245 rfl (lv_at L 2 rfl)) ?_
        refine x_gi X (kX5 hG) 1 (by decide) q2137 (fun _ h => h) dX5_does_246 hp305 (fun v235 hp306 => ?_)
        refine x_pc (pc' := 249) rfl ?_
        obtain ⟨b236, rfl, hp307⟩ := hp306
        refine x_callVX (em := emI) (fun r st => .int r :: st) (fun _ _ => rfl) 1 X (kX2 hG) (fun σ' KK KX h => R_X2_readsWord l hl G hG b236 v235 σ' KK KX h) (lw_V q2225 q2226 q2227 q100 q2228) ⟨rfl, mdX2_readsWord⟩ ⟨Nat.le_of_ble_eq_true rfl, Nat.le_of_ble_eq_true rfl⟩ rfl rfl (Nat.le_of_ble_eq_true rfl) dX5_does_249 hp307.1 hp307.2 (fun v237 σ238 hpA249 => ?_) (fun q239 σ240 hpB249 => ?_)
        · have hp308 := hpA249
          refine x_pc (pc' := 252) rfl ?_
          refine x_vx ?_; exact x_iret X hr rfl dX5_does_252 hp308
        · have hp309 := hpB249
          obtain ⟨hq249, hp310⟩ := hp309
          obtain ⟨hr249, hp311⟩ := hp310
          exact x_out X (kX6 hG) (hout 249) hr249 hq249 hp311
      have hp312 := hp304.2 c196_0
      by_cases c196_1 : (-1 : Int32) = (1 : Int32)
      · have hp313 := hp312.1 c196_1
        refine x_up (pc' := 253) (fun _ _ _ _ _ L => lv_tableIn (off := 57) (tgt := 253) hx hb dX5_does_196 (by rw [c196_1]; decide) (by rw [c196_1]; decide) (by rw [c196_1]; rfl) (by decide)) ?_
        refine x_up (pc' := 254) (fun _ _ _ _ _ L => lv_aloadq_n hx hb dX5_does_253 rfl (lv_at L 3 rfl)) ?_
        refine x_up (pc' := 255) (fun _ _ _ _ _ L => lv_aload_n hx hb dX5_does_254 rfl (lv_at L 2 rfl)) ?_
        refine x_gi X (kX5 hG) 1 (by decide) q2137 (fun _ h => h) dX5_does_255 hp313 (fun v241 hp314 => ?_)
        refine x_pc (pc' := 258) rfl ?_
        refine x_up (pc' := 259) (fun _ _ _ _ _ L => lv_aload_n hx hb dX5_does_258 rfl (lv_at L 2 rfl)) ?_
        refine x_gi X (kX5 hG) 2 (by decide) q2138 (fun _ h => h) dX5_does_259 hp314 (fun v242 hp315 => ?_)
        refine x_pc (pc' := 262) rfl ?_
        obtain ⟨b243, rfl, hp316⟩ := hp315
        refine x_callVX (em := emI) (fun r st => .int r :: st) (fun _ _ => rfl) 2 X (kX2 hG) (fun σ' KK KX h => R_X2_writesWord l hl G hG b243 v241 v242 σ' KK KX h) (lw_V q2497 q2498 q2499 q100 q2500) ⟨rfl, mdX2_writesWord⟩ ⟨Nat.le_of_ble_eq_true rfl, Nat.le_of_ble_eq_true rfl⟩ rfl rfl (Nat.le_of_ble_eq_true rfl) dX5_does_262 hp316.1 hp316.2 (fun v244 σ245 hpA262 => ?_) (fun q246 σ247 hpB262 => ?_)
        · have hp317 := hpA262
          refine x_pc (pc' := 265) rfl ?_
          refine x_vx ?_; exact x_iret X hr rfl dX5_does_265 hp317
        · have hp318 := hpB262
          obtain ⟨hq262, hp319⟩ := hp318
          obtain ⟨hr262, hp320⟩ := hp319
          exact x_out X (kX6 hG) (hout 262) hr262 hq262 hp320
      have hp321 := hp312.2 c196_1
      by_cases c196_2 : (-1 : Int32) = (2 : Int32)
      · have hp322 := hp321.1 c196_2
        refine x_up (pc' := 266) (fun _ _ _ _ _ L => lv_tableIn (off := 70) (tgt := 266) hx hb dX5_does_196 (by rw [c196_2]; decide) (by rw [c196_2]; decide) (by rw [c196_2]; rfl) (by decide)) ?_
        refine x_up (pc' := 267) (fun _ _ _ _ _ L => lv_aloadq_n hx hb dX5_does_266 rfl (lv_at L 3 rfl)) ?_
        refine x_up (pc' := 268) (fun _ _ _ _ _ L => lv_aload_n hx hb dX5_does_267 rfl (lv_at L 2 rfl)) ?_
        refine x_gi X (kX5 hG) 1 (by decide) q2137 (fun _ h => h) dX5_does_268 hp322 (fun v248 hp323 => ?_)
        refine x_pc (pc' := 271) rfl ?_
        obtain ⟨b249, rfl, hp324⟩ := hp323
        refine x_callVX (em := emI) (fun r st => .int r :: st) (fun _ _ => rfl) 1 X (kX2 hG) (fun σ' KK KX h => R_X2_pins l hl G hG b249 v248 σ' KK KX h) (lw_V q2509 q2510 q2511 q100 q2512) ⟨rfl, mdX2_pins⟩ ⟨Nat.le_of_ble_eq_true rfl, Nat.le_of_ble_eq_true rfl⟩ rfl rfl (Nat.le_of_ble_eq_true rfl) dX5_does_271 hp324.1 hp324.2 (fun v250 σ251 hpA271 => ?_) (fun q252 σ253 hpB271 => ?_)
        · have hp325 := hpA271
          refine x_pc (pc' := 274) rfl ?_
          refine x_vx ?_; exact x_iret X hr rfl dX5_does_274 hp325
        · have hp326 := hpB271
          obtain ⟨hq271, hp327⟩ := hp326
          obtain ⟨hr271, hp328⟩ := hp327
          exact x_out X (kX6 hG) (hout 271) hr271 hq271 hp328
      have hp329 := hp321.2 c196_2
      by_cases c196_3 : (-1 : Int32) = (3 : Int32)
      · have hp330 := hp329.1 c196_3
        refine x_up (pc' := 275) (fun _ _ _ _ _ L => lv_tableIn (off := 79) (tgt := 275) hx hb dX5_does_196 (by rw [c196_3]; decide) (by rw [c196_3]; decide) (by rw [c196_3]; rfl) (by decide)) ?_
        refine x_up (pc' := 276) (fun _ _ _ _ _ L => lv_aloadq_n hx hb dX5_does_275 rfl (lv_at L 3 rfl)) ?_
        refine x_up (pc' := 277) (fun _ _ _ _ _ L => lv_aload_n hx hb dX5_does_276 rfl (lv_at L 2 rfl)) ?_
        refine x_gi X (kX5 hG) 1 (by decide) q2137 (fun _ h => h) dX5_does_277 hp330 (fun v254 hp331 => ?_)
        refine x_pc (pc' := 280) rfl ?_
        obtain ⟨b255, rfl, hp332⟩ := hp331
        refine x_callVX (em := emI) (fun r st => .int r :: st) (fun _ _ => rfl) 1 X (kX2 hG) (fun σ' KK KX h => R_X2_frees l hl G hG b255 v254 σ' KK KX h) (lw_V q2522 q2523 q2524 q100 q2525) ⟨rfl, mdX2_frees⟩ ⟨Nat.le_of_ble_eq_true rfl, Nat.le_of_ble_eq_true rfl⟩ rfl rfl (Nat.le_of_ble_eq_true rfl) dX5_does_280 hp332.1 hp332.2 (fun v256 σ257 hpA280 => ?_) (fun q258 σ259 hpB280 => ?_)
        · have hp333 := hpA280
          refine x_pc (pc' := 283) rfl ?_
          refine x_vx ?_; exact x_iret X hr rfl dX5_does_283 hp333
        · have hp334 := hpB280
          obtain ⟨hq280, hp335⟩ := hp334
          obtain ⟨hr280, hp336⟩ := hp335
          exact x_out X (kX6 hG) (hout 280) hr280 hq280 hp336
      have hp337 := hp329.2 c196_3
      by_cases c196_4 : (-1 : Int32) = (4 : Int32)
      · have hp338 := hp337.1 c196_4
        refine x_up (pc' := 284) (fun _ _ _ _ _ L => lv_tableIn (off := 88) (tgt := 284) hx hb dX5_does_196 (by rw [c196_4]; decide) (by rw [c196_4]; decide) (by rw [c196_4]; rfl) (by decide)) ?_
        refine x_up (pc' := 285) (fun _ _ _ _ _ L => lv_aloadq_n hx hb dX5_does_284 rfl (lv_at L 3 rfl)) ?_
        obtain ⟨b260, rfl, hp339⟩ := hp338
        refine x_callVX (em := emI) (fun r st => .int r :: st) (fun _ _ => rfl) 0 X (kX2 hG) (fun σ' KK KX h => R_X2_flushes l hl G hG b260 σ' KK KX h) (lw_V q2526 q2527 q2528 q100 q2529) ⟨rfl, mdX2_flushes⟩ ⟨Nat.le_of_ble_eq_true rfl, Nat.le_of_ble_eq_true rfl⟩ rfl rfl (Nat.le_of_ble_eq_true rfl) dX5_does_285 hp339.1 hp339.2 (fun v261 σ262 hpA285 => ?_) (fun q263 σ264 hpB285 => ?_)
        · have hp340 := hpA285
          refine x_pc (pc' := 288) rfl ?_
          refine x_vx ?_; exact x_iret X hr rfl dX5_does_288 hp340
        · have hp341 := hpB285
          obtain ⟨hq285, hp342⟩ := hp341
          obtain ⟨hr285, hp343⟩ := hp342
          exact x_out X (kX6 hG) (hout 285) hr285 hq285 hp343
      have hp344 := hp337.2 c196_4
      by_cases c196_5 : (-1 : Int32) = (5 : Int32)
      · have hp345 := hp344.1 c196_5
        refine x_up (pc' := 289) (fun _ _ _ _ _ L => lv_tableIn (off := 93) (tgt := 289) hx hb dX5_does_196 (by rw [c196_5]; decide) (by rw [c196_5]; decide) (by rw [c196_5]; rfl) (by decide)) ?_
        refine x_up (pc' := 290) (fun _ _ _ _ _ L => lv_aloadq_n hx hb dX5_does_289 rfl (lv_at L 3 rfl)) ?_
        refine x_up (pc' := 291) (fun _ _ _ _ _ L => lv_aload_n hx hb dX5_does_290 rfl (lv_at L 2 rfl)) ?_
        refine x_gi X (kX5 hG) 1 (by decide) q2137 (fun _ h => h) dX5_does_291 hp345 (fun v265 hp346 => ?_)
        refine x_pc (pc' := 294) rfl ?_
        refine x_up (pc' := 295) (fun _ _ _ _ _ L => lv_aload_n hx hb dX5_does_294 rfl (lv_at L 2 rfl)) ?_
        refine x_gi X (kX5 hG) 2 (by decide) q2138 (fun _ h => h) dX5_does_295 hp346 (fun v266 hp347 => ?_)
        refine x_pc (pc' := 298) rfl ?_
        obtain ⟨b267, rfl, hp348⟩ := hp347
        refine x_callVX (em := emI) (fun r st => .int r :: st) (fun _ _ => rfl) 2 X (kX2 hG) (fun σ' KK KX h => R_X2_deviceWrites l hl G hG b267 v265 v266 σ' KK KX h) (lw_V q2535 q2536 q2537 q100 q2538) ⟨rfl, mdX2_deviceWrites⟩ ⟨Nat.le_of_ble_eq_true rfl, Nat.le_of_ble_eq_true rfl⟩ rfl rfl (Nat.le_of_ble_eq_true rfl) dX5_does_298 hp348.1 hp348.2 (fun v268 σ269 hpA298 => ?_) (fun q270 σ271 hpB298 => ?_)
        · have hp349 := hpA298
          refine x_pc (pc' := 301) rfl ?_
          refine x_vx ?_; exact x_iret X hr rfl dX5_does_301 hp349
        · have hp350 := hpB298
          obtain ⟨hq298, hp351⟩ := hp350
          obtain ⟨hr298, hp352⟩ := hp351
          exact x_out X (kX6 hG) (hout 298) hr298 hq298 hp352
      have hp353 := hp344.2 c196_5
      by_cases c196_6 : (-1 : Int32) = (6 : Int32)
      · have hp354 := hp353.1 c196_6
        refine x_up (pc' := 302) (fun _ _ _ _ _ L => lv_tableIn (off := 106) (tgt := 302) hx hb dX5_does_196 (by rw [c196_6]; decide) (by rw [c196_6]; decide) (by rw [c196_6]; rfl) (by decide)) ?_
        refine x_up (pc' := 303) (fun _ _ _ _ _ L => lv_aloadq_n hx hb dX5_does_302 rfl (lv_at L 3 rfl)) ?_
        refine x_up (pc' := 304) (fun _ _ _ _ _ L => lv_aload_n hx hb dX5_does_303 rfl (lv_at L 2 rfl)) ?_
        refine x_gi X (kX5 hG) 1 (by decide) q2137 (fun _ h => h) dX5_does_304 hp354 (fun v272 hp355 => ?_)
        refine x_pc (pc' := 307) rfl ?_
        obtain ⟨b273, rfl, hp356⟩ := hp355
        refine x_callVX (em := emI) (fun r st => .int r :: st) (fun _ _ => rfl) 1 X (kX2 hG) (fun σ' KK KX h => R_X2_waits l hl G hG b273 v272 σ' KK KX h) (lw_V q2543 q2544 q2545 q100 q2546) ⟨rfl, mdX2_waits⟩ ⟨Nat.le_of_ble_eq_true rfl, Nat.le_of_ble_eq_true rfl⟩ rfl rfl (Nat.le_of_ble_eq_true rfl) dX5_does_307 hp356.1 hp356.2 (fun v274 σ275 hpA307 => ?_) (fun q276 σ277 hpB307 => ?_)
        · have hp357 := hpA307
          refine x_pc (pc' := 310) rfl ?_
          refine x_vx ?_; exact x_iret X hr rfl dX5_does_310 hp357
        · have hp358 := hpB307
          obtain ⟨hq307, hp359⟩ := hp358
          obtain ⟨hr307, hp360⟩ := hp359
          exact x_out X (kX6 hG) (hout 307) hr307 hq307 hp360
      have hp361 := hp353.2 c196_6
      by_cases c196_7 : (-1 : Int32) = (7 : Int32)
      · have hp362 := hp361.1 c196_7
        refine x_up (pc' := 311) (fun _ _ _ _ _ L => lv_tableIn (off := 115) (tgt := 311) hx hb dX5_does_196 (by rw [c196_7]; decide) (by rw [c196_7]; decide) (by rw [c196_7]; rfl) (by decide)) ?_
        refine x_up (pc' := 312) (fun _ _ _ _ _ L => lv_aloadq_n hx hb dX5_does_311 rfl (lv_at L 3 rfl)) ?_
        refine x_up (pc' := 313) (fun _ _ _ _ _ L => lv_aload_n hx hb dX5_does_312 rfl (lv_at L 2 rfl)) ?_
        refine x_gi X (kX5 hG) 1 (by decide) q2137 (fun _ h => h) dX5_does_313 hp362 (fun v278 hp363 => ?_)
        refine x_pc (pc' := 316) rfl ?_
        refine x_up (pc' := 317) (fun _ _ _ _ _ L => lv_aload_n hx hb dX5_does_316 rfl (lv_at L 2 rfl)) ?_
        refine x_gi X (kX5 hG) 2 (by decide) q2138 (fun _ h => h) dX5_does_317 hp363 (fun v279 hp364 => ?_)
        refine x_pc (pc' := 320) rfl ?_
        obtain ⟨b280, rfl, hp365⟩ := hp364
        refine x_callVX (em := emI) (fun r st => .int r :: st) (fun _ _ => rfl) 2 X (kX2 hG) (fun σ' KK KX h => R_X2_shapes l hl G hG b280 v278 v279 σ' KK KX h) (lw_V q2547 q2548 q2549 q100 q2550) ⟨rfl, mdX2_shapes⟩ ⟨Nat.le_of_ble_eq_true rfl, Nat.le_of_ble_eq_true rfl⟩ rfl rfl (Nat.le_of_ble_eq_true rfl) dX5_does_320 hp365.1 hp365.2 (fun v281 σ282 hpA320 => ?_) (fun q283 σ284 hpB320 => ?_)
        · have hp366 := hpA320
          refine x_pc (pc' := 323) rfl ?_
          refine x_vx ?_; exact x_iret X hr rfl dX5_does_323 hp366
        · have hp367 := hpB320
          obtain ⟨hq320, hp368⟩ := hp367
          obtain ⟨hr320, hp369⟩ := hp368
          exact x_out X (kX6 hG) (hout 320) hr320 hq320 hp369
      have hp370 := hp361.2 c196_7
      refine x_up (pc' := 324) (fun _ _ _ _ _ L => lv_tableOut (tgt := 324) hx hb dX5_does_196 (x_tabOut 0 8 (by decide) (by decide) (by decide) (lt_s (lt_s (lt_s (lt_s (lt_s (lt_s (lt_s (lt_s lt_0 c196_0) c196_1) c196_2) c196_3) c196_4) c196_5) c196_6) c196_7)) (by decide)) ?_
      refine x_up (pc' := 325) (fun _ _ _ _ _ L => lv_aloadq_n hx hb dX5_does_324 rfl (lv_at L 3 rfl)) ?_
      refine x_up (pc' := 326) (fun _ _ _ _ _ L => lv_aload_n hx hb dX5_does_325 rfl (lv_at L 2 rfl)) ?_
      refine x_gi X (kX5 hG) 1 (by decide) q2137 (fun _ h => h) dX5_does_326 hp370 (fun v285 hp371 => ?_)
      refine x_pc (pc' := 329) rfl ?_
      obtain ⟨b286, rfl, hp372⟩ := hp371
      refine x_callVX (em := emI) (fun r st => .int r :: st) (fun _ _ => rfl) 1 X (kX2 hG) (fun σ' KK KX h => R_X2_rules l hl G hG b286 v285 σ' KK KX h) (lw_V q2551 q2552 q2553 q100 q2554) ⟨rfl, mdX2_rules⟩ ⟨Nat.le_of_ble_eq_true rfl, Nat.le_of_ble_eq_true rfl⟩ rfl rfl (Nat.le_of_ble_eq_true rfl) dX5_does_329 hp372.1 hp372.2 (fun v287 σ288 hpA329 => ?_) (fun q289 σ290 hpB329 => ?_)
      · have hp373 := hpA329
        refine x_pc (pc' := 332) rfl ?_
        refine x_vx ?_; exact x_iret X hr rfl dX5_does_332 hp373
      · have hp374 := hpB329
        obtain ⟨hq329, hp375⟩ := hp374
        obtain ⟨hr329, hp376⟩ := hp375
        exact x_out X (kX6 hG) (hout 329) hr329 hq329 hp376
    · have hp377 := hp303.2 c132
      refine x_up (pc' := 136) (fun _ _ _ _ _ L => lv_iconst (v := (3 : Int32)) hx hb dX5_does_135 (by decide)) ?_
      refine x_upL (pc' := 137) (lo' := [(3, .int (3 : Int32)), (2, .ref b2), (0, .ref a0), (1, va_rf x1)]) (fun _ _ _ _ _ L => lv_istore_n hx hb dX5_does_136 rfl L (by decide) rfl) ?_
      refine x_up (pc' := 195) (fun _ _ _ _ _ L => lv_goto (tgt := 195) hx hb dX5_does_137 (by decide)) ?_
      refine x_up (pc' := 196) (fun _ _ _ _ _ L => lv_iload_n hx hb dX5_does_195 rfl (lv_at L 0 rfl)) ?_
      by_cases c196_0 : (3 : Int32) = (0 : Int32)
      · have hp378 := hp377.1 c196_0
        refine x_up (pc' := 244) (fun _ _ _ _ _ L => lv_tableIn (off := 48) (tgt := 244) hx hb dX5_does_196 (by rw [c196_0]; decide) (by rw [c196_0]; decide) (by rw [c196_0]; rfl) (by decide)) ?_
        refine x_up (pc' := 245) (fun _ _ _ _ _ L => lv_aloadq_n hx hb dX5_does_244 rfl (lv_at L 3 rfl)) ?_
        refine x_up (pc' := 246) (fun _ _ _ _ _ L => lv_aload_n hx hb dX5_does_245 rfl (lv_at L 2 rfl)) ?_
        refine x_gi X (kX5 hG) 1 (by decide) q2137 (fun _ h => h) dX5_does_246 hp378 (fun v291 hp379 => ?_)
        refine x_pc (pc' := 249) rfl ?_
        obtain ⟨b292, rfl, hp380⟩ := hp379
        refine x_callVX (em := emI) (fun r st => .int r :: st) (fun _ _ => rfl) 1 X (kX2 hG) (fun σ' KK KX h => R_X2_readsWord l hl G hG b292 v291 σ' KK KX h) (lw_V q2225 q2226 q2227 q100 q2228) ⟨rfl, mdX2_readsWord⟩ ⟨Nat.le_of_ble_eq_true rfl, Nat.le_of_ble_eq_true rfl⟩ rfl rfl (Nat.le_of_ble_eq_true rfl) dX5_does_249 hp380.1 hp380.2 (fun v293 σ294 hpA249 => ?_) (fun q295 σ296 hpB249 => ?_)
        · have hp381 := hpA249
          refine x_pc (pc' := 252) rfl ?_
          refine x_vx ?_; exact x_iret X hr rfl dX5_does_252 hp381
        · have hp382 := hpB249
          obtain ⟨hq249, hp383⟩ := hp382
          obtain ⟨hr249, hp384⟩ := hp383
          exact x_out X (kX6 hG) (hout 249) hr249 hq249 hp384
      have hp385 := hp377.2 c196_0
      by_cases c196_1 : (3 : Int32) = (1 : Int32)
      · have hp386 := hp385.1 c196_1
        refine x_up (pc' := 253) (fun _ _ _ _ _ L => lv_tableIn (off := 57) (tgt := 253) hx hb dX5_does_196 (by rw [c196_1]; decide) (by rw [c196_1]; decide) (by rw [c196_1]; rfl) (by decide)) ?_
        refine x_up (pc' := 254) (fun _ _ _ _ _ L => lv_aloadq_n hx hb dX5_does_253 rfl (lv_at L 3 rfl)) ?_
        refine x_up (pc' := 255) (fun _ _ _ _ _ L => lv_aload_n hx hb dX5_does_254 rfl (lv_at L 2 rfl)) ?_
        refine x_gi X (kX5 hG) 1 (by decide) q2137 (fun _ h => h) dX5_does_255 hp386 (fun v297 hp387 => ?_)
        refine x_pc (pc' := 258) rfl ?_
        refine x_up (pc' := 259) (fun _ _ _ _ _ L => lv_aload_n hx hb dX5_does_258 rfl (lv_at L 2 rfl)) ?_
        refine x_gi X (kX5 hG) 2 (by decide) q2138 (fun _ h => h) dX5_does_259 hp387 (fun v298 hp388 => ?_)
        refine x_pc (pc' := 262) rfl ?_
        obtain ⟨b299, rfl, hp389⟩ := hp388
        refine x_callVX (em := emI) (fun r st => .int r :: st) (fun _ _ => rfl) 2 X (kX2 hG) (fun σ' KK KX h => R_X2_writesWord l hl G hG b299 v297 v298 σ' KK KX h) (lw_V q2497 q2498 q2499 q100 q2500) ⟨rfl, mdX2_writesWord⟩ ⟨Nat.le_of_ble_eq_true rfl, Nat.le_of_ble_eq_true rfl⟩ rfl rfl (Nat.le_of_ble_eq_true rfl) dX5_does_262 hp389.1 hp389.2 (fun v300 σ301 hpA262 => ?_) (fun q302 σ303 hpB262 => ?_)
        · have hp390 := hpA262
          refine x_pc (pc' := 265) rfl ?_
          refine x_vx ?_; exact x_iret X hr rfl dX5_does_265 hp390
        · have hp391 := hpB262
          obtain ⟨hq262, hp392⟩ := hp391
          obtain ⟨hr262, hp393⟩ := hp392
          exact x_out X (kX6 hG) (hout 262) hr262 hq262 hp393
      have hp394 := hp385.2 c196_1
      by_cases c196_2 : (3 : Int32) = (2 : Int32)
      · have hp395 := hp394.1 c196_2
        refine x_up (pc' := 266) (fun _ _ _ _ _ L => lv_tableIn (off := 70) (tgt := 266) hx hb dX5_does_196 (by rw [c196_2]; decide) (by rw [c196_2]; decide) (by rw [c196_2]; rfl) (by decide)) ?_
        refine x_up (pc' := 267) (fun _ _ _ _ _ L => lv_aloadq_n hx hb dX5_does_266 rfl (lv_at L 3 rfl)) ?_
        refine x_up (pc' := 268) (fun _ _ _ _ _ L => lv_aload_n hx hb dX5_does_267 rfl (lv_at L 2 rfl)) ?_
        refine x_gi X (kX5 hG) 1 (by decide) q2137 (fun _ h => h) dX5_does_268 hp395 (fun v304 hp396 => ?_)
        refine x_pc (pc' := 271) rfl ?_
        obtain ⟨b305, rfl, hp397⟩ := hp396
        refine x_callVX (em := emI) (fun r st => .int r :: st) (fun _ _ => rfl) 1 X (kX2 hG) (fun σ' KK KX h => R_X2_pins l hl G hG b305 v304 σ' KK KX h) (lw_V q2509 q2510 q2511 q100 q2512) ⟨rfl, mdX2_pins⟩ ⟨Nat.le_of_ble_eq_true rfl, Nat.le_of_ble_eq_true rfl⟩ rfl rfl (Nat.le_of_ble_eq_true rfl) dX5_does_271 hp397.1 hp397.2 (fun v306 σ307 hpA271 => ?_) (fun q308 σ309 hpB271 => ?_)
        · have hp398 := hpA271
          refine x_pc (pc' := 274) rfl ?_
          refine x_vx ?_; exact x_iret X hr rfl dX5_does_274 hp398
        · have hp399 := hpB271
          obtain ⟨hq271, hp400⟩ := hp399
          obtain ⟨hr271, hp401⟩ := hp400
          exact x_out X (kX6 hG) (hout 271) hr271 hq271 hp401
      have hp402 := hp394.2 c196_2
      by_cases c196_3 : (3 : Int32) = (3 : Int32)
      · have hp403 := hp402.1 c196_3
        refine x_up (pc' := 275) (fun _ _ _ _ _ L => lv_tableIn (off := 79) (tgt := 275) hx hb dX5_does_196 (by rw [c196_3]; decide) (by rw [c196_3]; decide) (by rw [c196_3]; rfl) (by decide)) ?_
        refine x_up (pc' := 276) (fun _ _ _ _ _ L => lv_aloadq_n hx hb dX5_does_275 rfl (lv_at L 3 rfl)) ?_
        refine x_up (pc' := 277) (fun _ _ _ _ _ L => lv_aload_n hx hb dX5_does_276 rfl (lv_at L 2 rfl)) ?_
        refine x_gi X (kX5 hG) 1 (by decide) q2137 (fun _ h => h) dX5_does_277 hp403 (fun v310 hp404 => ?_)
        refine x_pc (pc' := 280) rfl ?_
        obtain ⟨b311, rfl, hp405⟩ := hp404
        refine x_callVX (em := emI) (fun r st => .int r :: st) (fun _ _ => rfl) 1 X (kX2 hG) (fun σ' KK KX h => R_X2_frees l hl G hG b311 v310 σ' KK KX h) (lw_V q2522 q2523 q2524 q100 q2525) ⟨rfl, mdX2_frees⟩ ⟨Nat.le_of_ble_eq_true rfl, Nat.le_of_ble_eq_true rfl⟩ rfl rfl (Nat.le_of_ble_eq_true rfl) dX5_does_280 hp405.1 hp405.2 (fun v312 σ313 hpA280 => ?_) (fun q314 σ315 hpB280 => ?_)
        · have hp406 := hpA280
          refine x_pc (pc' := 283) rfl ?_
          refine x_vx ?_; exact x_iret X hr rfl dX5_does_283 hp406
        · have hp407 := hpB280
          obtain ⟨hq280, hp408⟩ := hp407
          obtain ⟨hr280, hp409⟩ := hp408
          exact x_out X (kX6 hG) (hout 280) hr280 hq280 hp409
      have hp410 := hp402.2 c196_3
      by_cases c196_4 : (3 : Int32) = (4 : Int32)
      · have hp411 := hp410.1 c196_4
        refine x_up (pc' := 284) (fun _ _ _ _ _ L => lv_tableIn (off := 88) (tgt := 284) hx hb dX5_does_196 (by rw [c196_4]; decide) (by rw [c196_4]; decide) (by rw [c196_4]; rfl) (by decide)) ?_
        refine x_up (pc' := 285) (fun _ _ _ _ _ L => lv_aloadq_n hx hb dX5_does_284 rfl (lv_at L 3 rfl)) ?_
        obtain ⟨b316, rfl, hp412⟩ := hp411
        refine x_callVX (em := emI) (fun r st => .int r :: st) (fun _ _ => rfl) 0 X (kX2 hG) (fun σ' KK KX h => R_X2_flushes l hl G hG b316 σ' KK KX h) (lw_V q2526 q2527 q2528 q100 q2529) ⟨rfl, mdX2_flushes⟩ ⟨Nat.le_of_ble_eq_true rfl, Nat.le_of_ble_eq_true rfl⟩ rfl rfl (Nat.le_of_ble_eq_true rfl) dX5_does_285 hp412.1 hp412.2 (fun v317 σ318 hpA285 => ?_) (fun q319 σ320 hpB285 => ?_)
        · have hp413 := hpA285
          refine x_pc (pc' := 288) rfl ?_
          refine x_vx ?_; exact x_iret X hr rfl dX5_does_288 hp413
        · have hp414 := hpB285
          obtain ⟨hq285, hp415⟩ := hp414
          obtain ⟨hr285, hp416⟩ := hp415
          exact x_out X (kX6 hG) (hout 285) hr285 hq285 hp416
      have hp417 := hp410.2 c196_4
      by_cases c196_5 : (3 : Int32) = (5 : Int32)
      · have hp418 := hp417.1 c196_5
        refine x_up (pc' := 289) (fun _ _ _ _ _ L => lv_tableIn (off := 93) (tgt := 289) hx hb dX5_does_196 (by rw [c196_5]; decide) (by rw [c196_5]; decide) (by rw [c196_5]; rfl) (by decide)) ?_
        refine x_up (pc' := 290) (fun _ _ _ _ _ L => lv_aloadq_n hx hb dX5_does_289 rfl (lv_at L 3 rfl)) ?_
        refine x_up (pc' := 291) (fun _ _ _ _ _ L => lv_aload_n hx hb dX5_does_290 rfl (lv_at L 2 rfl)) ?_
        refine x_gi X (kX5 hG) 1 (by decide) q2137 (fun _ h => h) dX5_does_291 hp418 (fun v321 hp419 => ?_)
        refine x_pc (pc' := 294) rfl ?_
        refine x_up (pc' := 295) (fun _ _ _ _ _ L => lv_aload_n hx hb dX5_does_294 rfl (lv_at L 2 rfl)) ?_
        refine x_gi X (kX5 hG) 2 (by decide) q2138 (fun _ h => h) dX5_does_295 hp419 (fun v322 hp420 => ?_)
        refine x_pc (pc' := 298) rfl ?_
        obtain ⟨b323, rfl, hp421⟩ := hp420
        refine x_callVX (em := emI) (fun r st => .int r :: st) (fun _ _ => rfl) 2 X (kX2 hG) (fun σ' KK KX h => R_X2_deviceWrites l hl G hG b323 v321 v322 σ' KK KX h) (lw_V q2535 q2536 q2537 q100 q2538) ⟨rfl, mdX2_deviceWrites⟩ ⟨Nat.le_of_ble_eq_true rfl, Nat.le_of_ble_eq_true rfl⟩ rfl rfl (Nat.le_of_ble_eq_true rfl) dX5_does_298 hp421.1 hp421.2 (fun v324 σ325 hpA298 => ?_) (fun q326 σ327 hpB298 => ?_)
        · have hp422 := hpA298
          refine x_pc (pc' := 301) rfl ?_
          refine x_vx ?_; exact x_iret X hr rfl dX5_does_301 hp422
        · have hp423 := hpB298
          obtain ⟨hq298, hp424⟩ := hp423
          obtain ⟨hr298, hp425⟩ := hp424
          exact x_out X (kX6 hG) (hout 298) hr298 hq298 hp425
      have hp426 := hp417.2 c196_5
      by_cases c196_6 : (3 : Int32) = (6 : Int32)
      · have hp427 := hp426.1 c196_6
        refine x_up (pc' := 302) (fun _ _ _ _ _ L => lv_tableIn (off := 106) (tgt := 302) hx hb dX5_does_196 (by rw [c196_6]; decide) (by rw [c196_6]; decide) (by rw [c196_6]; rfl) (by decide)) ?_
        refine x_up (pc' := 303) (fun _ _ _ _ _ L => lv_aloadq_n hx hb dX5_does_302 rfl (lv_at L 3 rfl)) ?_
        refine x_up (pc' := 304) (fun _ _ _ _ _ L => lv_aload_n hx hb dX5_does_303 rfl (lv_at L 2 rfl)) ?_
        refine x_gi X (kX5 hG) 1 (by decide) q2137 (fun _ h => h) dX5_does_304 hp427 (fun v328 hp428 => ?_)
        refine x_pc (pc' := 307) rfl ?_
        obtain ⟨b329, rfl, hp429⟩ := hp428
        refine x_callVX (em := emI) (fun r st => .int r :: st) (fun _ _ => rfl) 1 X (kX2 hG) (fun σ' KK KX h => R_X2_waits l hl G hG b329 v328 σ' KK KX h) (lw_V q2543 q2544 q2545 q100 q2546) ⟨rfl, mdX2_waits⟩ ⟨Nat.le_of_ble_eq_true rfl, Nat.le_of_ble_eq_true rfl⟩ rfl rfl (Nat.le_of_ble_eq_true rfl) dX5_does_307 hp429.1 hp429.2 (fun v330 σ331 hpA307 => ?_) (fun q332 σ333 hpB307 => ?_)
        · have hp430 := hpA307
          refine x_pc (pc' := 310) rfl ?_
          refine x_vx ?_; exact x_iret X hr rfl dX5_does_310 hp430
        · have hp431 := hpB307
          obtain ⟨hq307, hp432⟩ := hp431
          obtain ⟨hr307, hp433⟩ := hp432
          exact x_out X (kX6 hG) (hout 307) hr307 hq307 hp433
      have hp434 := hp426.2 c196_6
      by_cases c196_7 : (3 : Int32) = (7 : Int32)
      · have hp435 := hp434.1 c196_7
        refine x_up (pc' := 311) (fun _ _ _ _ _ L => lv_tableIn (off := 115) (tgt := 311) hx hb dX5_does_196 (by rw [c196_7]; decide) (by rw [c196_7]; decide) (by rw [c196_7]; rfl) (by decide)) ?_
        refine x_up (pc' := 312) (fun _ _ _ _ _ L => lv_aloadq_n hx hb dX5_does_311 rfl (lv_at L 3 rfl)) ?_
        refine x_up (pc' := 313) (fun _ _ _ _ _ L => lv_aload_n hx hb dX5_does_312 rfl (lv_at L 2 rfl)) ?_
        refine x_gi X (kX5 hG) 1 (by decide) q2137 (fun _ h => h) dX5_does_313 hp435 (fun v334 hp436 => ?_)
        refine x_pc (pc' := 316) rfl ?_
        refine x_up (pc' := 317) (fun _ _ _ _ _ L => lv_aload_n hx hb dX5_does_316 rfl (lv_at L 2 rfl)) ?_
        refine x_gi X (kX5 hG) 2 (by decide) q2138 (fun _ h => h) dX5_does_317 hp436 (fun v335 hp437 => ?_)
        refine x_pc (pc' := 320) rfl ?_
        obtain ⟨b336, rfl, hp438⟩ := hp437
        refine x_callVX (em := emI) (fun r st => .int r :: st) (fun _ _ => rfl) 2 X (kX2 hG) (fun σ' KK KX h => R_X2_shapes l hl G hG b336 v334 v335 σ' KK KX h) (lw_V q2547 q2548 q2549 q100 q2550) ⟨rfl, mdX2_shapes⟩ ⟨Nat.le_of_ble_eq_true rfl, Nat.le_of_ble_eq_true rfl⟩ rfl rfl (Nat.le_of_ble_eq_true rfl) dX5_does_320 hp438.1 hp438.2 (fun v337 σ338 hpA320 => ?_) (fun q339 σ340 hpB320 => ?_)
        · have hp439 := hpA320
          refine x_pc (pc' := 323) rfl ?_
          refine x_vx ?_; exact x_iret X hr rfl dX5_does_323 hp439
        · have hp440 := hpB320
          obtain ⟨hq320, hp441⟩ := hp440
          obtain ⟨hr320, hp442⟩ := hp441
          exact x_out X (kX6 hG) (hout 320) hr320 hq320 hp442
      have hp443 := hp434.2 c196_7
      refine x_up (pc' := 324) (fun _ _ _ _ _ L => lv_tableOut (tgt := 324) hx hb dX5_does_196 (x_tabOut 0 8 (by decide) (by decide) (by decide) (lt_s (lt_s (lt_s (lt_s (lt_s (lt_s (lt_s (lt_s lt_0 c196_0) c196_1) c196_2) c196_3) c196_4) c196_5) c196_6) c196_7)) (by decide)) ?_
      refine x_up (pc' := 325) (fun _ _ _ _ _ L => lv_aloadq_n hx hb dX5_does_324 rfl (lv_at L 3 rfl)) ?_
      refine x_up (pc' := 326) (fun _ _ _ _ _ L => lv_aload_n hx hb dX5_does_325 rfl (lv_at L 2 rfl)) ?_
      refine x_gi X (kX5 hG) 1 (by decide) q2137 (fun _ h => h) dX5_does_326 hp443 (fun v341 hp444 => ?_)
      refine x_pc (pc' := 329) rfl ?_
      obtain ⟨b342, rfl, hp445⟩ := hp444
      refine x_callVX (em := emI) (fun r st => .int r :: st) (fun _ _ => rfl) 1 X (kX2 hG) (fun σ' KK KX h => R_X2_rules l hl G hG b342 v341 σ' KK KX h) (lw_V q2551 q2552 q2553 q100 q2554) ⟨rfl, mdX2_rules⟩ ⟨Nat.le_of_ble_eq_true rfl, Nat.le_of_ble_eq_true rfl⟩ rfl rfl (Nat.le_of_ble_eq_true rfl) dX5_does_329 hp445.1 hp445.2 (fun v343 σ344 hpA329 => ?_) (fun q345 σ346 hpB329 => ?_)
      · have hp446 := hpA329
        refine x_pc (pc' := 332) rfl ?_
        refine x_vx ?_; exact x_iret X hr rfl dX5_does_332 hp446
      · have hp447 := hpB329
        obtain ⟨hq329, hp448⟩ := hp447
        obtain ⟨hr329, hp449⟩ := hp448
        exact x_out X (kX6 hG) (hout 329) hr329 hq329 hp449
  have hp450 := hp301.2 c11_2
  by_cases c11_3 : v3 = (3496342 : Int32)
  · have hp451 := hp450.1 c11_3
    refine x_up (pc' := 84) (fun _ _ _ _ _ L => lv_lookup (off := 73) (tgt := 84) hx hb dX5_does_11 (by decide) (by rw [c11_3]; rfl) (by decide)) ?_
    refine x_up (pc' := 85) (fun _ _ _ _ _ L => lv_aload_n hx hb dX5_does_84 rfl (lv_at L 1 rfl)) ?_
    refine x_ldcS (tx := "read") (q := G.2 11) X (by simp [x_ss, RX5]) dX5_does_85 ?_
    refine x_pc (pc' := 87) rfl ?_
    refine x_callV (em := emI) (fun r st => .int r :: st) (fun _ _ => rfl) 1 X (kJ14 hG) (fun σ' KK h => R_J14_equals l hl G hG b2 (some (G.2 11)) σ' KK h) (lw_V q2217 q679 q3698 q117 q680) ⟨rfl, mdJ14_equals⟩ ⟨Nat.le_of_ble_eq_true rfl, Nat.le_of_ble_eq_true rfl⟩ rfl rfl (Nat.le_of_ble_eq_true rfl) dX5_does_87 hp451.1 hp451.2 (fun v347 σ348 hp452 => ?_)
    refine x_pc (pc' := 90) rfl ?_
    refine x_if (C := v347 = 0) (pt := 195) (pc' := 93) (fun _ _ _ _ _ => lv_if_eq (tgt := 195) hx hb dX5_does_90 (by decide)) (fun c90 => ?_) (fun c90 => ?_)
    · have hp453 := hp452.1 c90
      refine x_up (pc' := 196) (fun _ _ _ _ _ L => lv_iload_n hx hb dX5_does_195 rfl (lv_at L 0 rfl)) ?_
      by_cases c196_0 : (-1 : Int32) = (0 : Int32)
      · have hp454 := hp453.1 c196_0
        refine x_up (pc' := 244) (fun _ _ _ _ _ L => lv_tableIn (off := 48) (tgt := 244) hx hb dX5_does_196 (by rw [c196_0]; decide) (by rw [c196_0]; decide) (by rw [c196_0]; rfl) (by decide)) ?_
        refine x_up (pc' := 245) (fun _ _ _ _ _ L => lv_aloadq_n hx hb dX5_does_244 rfl (lv_at L 3 rfl)) ?_
        refine x_up (pc' := 246) (fun _ _ _ _ _ L => lv_aload_n hx hb dX5_does_245 rfl (lv_at L 2 rfl)) ?_
        refine x_gi X (kX5 hG) 1 (by decide) q2137 (fun _ h => h) dX5_does_246 hp454 (fun v349 hp455 => ?_)
        refine x_pc (pc' := 249) rfl ?_
        obtain ⟨b350, rfl, hp456⟩ := hp455
        refine x_callVX (em := emI) (fun r st => .int r :: st) (fun _ _ => rfl) 1 X (kX2 hG) (fun σ' KK KX h => R_X2_readsWord l hl G hG b350 v349 σ' KK KX h) (lw_V q2225 q2226 q2227 q100 q2228) ⟨rfl, mdX2_readsWord⟩ ⟨Nat.le_of_ble_eq_true rfl, Nat.le_of_ble_eq_true rfl⟩ rfl rfl (Nat.le_of_ble_eq_true rfl) dX5_does_249 hp456.1 hp456.2 (fun v351 σ352 hpA249 => ?_) (fun q353 σ354 hpB249 => ?_)
        · have hp457 := hpA249
          refine x_pc (pc' := 252) rfl ?_
          refine x_vx ?_; exact x_iret X hr rfl dX5_does_252 hp457
        · have hp458 := hpB249
          obtain ⟨hq249, hp459⟩ := hp458
          obtain ⟨hr249, hp460⟩ := hp459
          exact x_out X (kX6 hG) (hout 249) hr249 hq249 hp460
      have hp461 := hp453.2 c196_0
      by_cases c196_1 : (-1 : Int32) = (1 : Int32)
      · have hp462 := hp461.1 c196_1
        refine x_up (pc' := 253) (fun _ _ _ _ _ L => lv_tableIn (off := 57) (tgt := 253) hx hb dX5_does_196 (by rw [c196_1]; decide) (by rw [c196_1]; decide) (by rw [c196_1]; rfl) (by decide)) ?_
        refine x_up (pc' := 254) (fun _ _ _ _ _ L => lv_aloadq_n hx hb dX5_does_253 rfl (lv_at L 3 rfl)) ?_
        refine x_up (pc' := 255) (fun _ _ _ _ _ L => lv_aload_n hx hb dX5_does_254 rfl (lv_at L 2 rfl)) ?_
        refine x_gi X (kX5 hG) 1 (by decide) q2137 (fun _ h => h) dX5_does_255 hp462 (fun v355 hp463 => ?_)
        refine x_pc (pc' := 258) rfl ?_
        refine x_up (pc' := 259) (fun _ _ _ _ _ L => lv_aload_n hx hb dX5_does_258 rfl (lv_at L 2 rfl)) ?_
        refine x_gi X (kX5 hG) 2 (by decide) q2138 (fun _ h => h) dX5_does_259 hp463 (fun v356 hp464 => ?_)
        refine x_pc (pc' := 262) rfl ?_
        obtain ⟨b357, rfl, hp465⟩ := hp464
        refine x_callVX (em := emI) (fun r st => .int r :: st) (fun _ _ => rfl) 2 X (kX2 hG) (fun σ' KK KX h => R_X2_writesWord l hl G hG b357 v355 v356 σ' KK KX h) (lw_V q2497 q2498 q2499 q100 q2500) ⟨rfl, mdX2_writesWord⟩ ⟨Nat.le_of_ble_eq_true rfl, Nat.le_of_ble_eq_true rfl⟩ rfl rfl (Nat.le_of_ble_eq_true rfl) dX5_does_262 hp465.1 hp465.2 (fun v358 σ359 hpA262 => ?_) (fun q360 σ361 hpB262 => ?_)
        · have hp466 := hpA262
          refine x_pc (pc' := 265) rfl ?_
          refine x_vx ?_; exact x_iret X hr rfl dX5_does_265 hp466
        · have hp467 := hpB262
          obtain ⟨hq262, hp468⟩ := hp467
          obtain ⟨hr262, hp469⟩ := hp468
          exact x_out X (kX6 hG) (hout 262) hr262 hq262 hp469
      have hp470 := hp461.2 c196_1
      by_cases c196_2 : (-1 : Int32) = (2 : Int32)
      · have hp471 := hp470.1 c196_2
        refine x_up (pc' := 266) (fun _ _ _ _ _ L => lv_tableIn (off := 70) (tgt := 266) hx hb dX5_does_196 (by rw [c196_2]; decide) (by rw [c196_2]; decide) (by rw [c196_2]; rfl) (by decide)) ?_
        refine x_up (pc' := 267) (fun _ _ _ _ _ L => lv_aloadq_n hx hb dX5_does_266 rfl (lv_at L 3 rfl)) ?_
        refine x_up (pc' := 268) (fun _ _ _ _ _ L => lv_aload_n hx hb dX5_does_267 rfl (lv_at L 2 rfl)) ?_
        refine x_gi X (kX5 hG) 1 (by decide) q2137 (fun _ h => h) dX5_does_268 hp471 (fun v362 hp472 => ?_)
        refine x_pc (pc' := 271) rfl ?_
        obtain ⟨b363, rfl, hp473⟩ := hp472
        refine x_callVX (em := emI) (fun r st => .int r :: st) (fun _ _ => rfl) 1 X (kX2 hG) (fun σ' KK KX h => R_X2_pins l hl G hG b363 v362 σ' KK KX h) (lw_V q2509 q2510 q2511 q100 q2512) ⟨rfl, mdX2_pins⟩ ⟨Nat.le_of_ble_eq_true rfl, Nat.le_of_ble_eq_true rfl⟩ rfl rfl (Nat.le_of_ble_eq_true rfl) dX5_does_271 hp473.1 hp473.2 (fun v364 σ365 hpA271 => ?_) (fun q366 σ367 hpB271 => ?_)
        · have hp474 := hpA271
          refine x_pc (pc' := 274) rfl ?_
          refine x_vx ?_; exact x_iret X hr rfl dX5_does_274 hp474
        · have hp475 := hpB271
          obtain ⟨hq271, hp476⟩ := hp475
          obtain ⟨hr271, hp477⟩ := hp476
          exact x_out X (kX6 hG) (hout 271) hr271 hq271 hp477
      have hp478 := hp470.2 c196_2
      by_cases c196_3 : (-1 : Int32) = (3 : Int32)
      · have hp479 := hp478.1 c196_3
        refine x_up (pc' := 275) (fun _ _ _ _ _ L => lv_tableIn (off := 79) (tgt := 275) hx hb dX5_does_196 (by rw [c196_3]; decide) (by rw [c196_3]; decide) (by rw [c196_3]; rfl) (by decide)) ?_
        refine x_up (pc' := 276) (fun _ _ _ _ _ L => lv_aloadq_n hx hb dX5_does_275 rfl (lv_at L 3 rfl)) ?_
        refine x_up (pc' := 277) (fun _ _ _ _ _ L => lv_aload_n hx hb dX5_does_276 rfl (lv_at L 2 rfl)) ?_
        refine x_gi X (kX5 hG) 1 (by decide) q2137 (fun _ h => h) dX5_does_277 hp479 (fun v368 hp480 => ?_)
        refine x_pc (pc' := 280) rfl ?_
        obtain ⟨b369, rfl, hp481⟩ := hp480
        refine x_callVX (em := emI) (fun r st => .int r :: st) (fun _ _ => rfl) 1 X (kX2 hG) (fun σ' KK KX h => R_X2_frees l hl G hG b369 v368 σ' KK KX h) (lw_V q2522 q2523 q2524 q100 q2525) ⟨rfl, mdX2_frees⟩ ⟨Nat.le_of_ble_eq_true rfl, Nat.le_of_ble_eq_true rfl⟩ rfl rfl (Nat.le_of_ble_eq_true rfl) dX5_does_280 hp481.1 hp481.2 (fun v370 σ371 hpA280 => ?_) (fun q372 σ373 hpB280 => ?_)
        · have hp482 := hpA280
          refine x_pc (pc' := 283) rfl ?_
          refine x_vx ?_; exact x_iret X hr rfl dX5_does_283 hp482
        · have hp483 := hpB280
          obtain ⟨hq280, hp484⟩ := hp483
          obtain ⟨hr280, hp485⟩ := hp484
          exact x_out X (kX6 hG) (hout 280) hr280 hq280 hp485
      have hp486 := hp478.2 c196_3
      by_cases c196_4 : (-1 : Int32) = (4 : Int32)
      · have hp487 := hp486.1 c196_4
        refine x_up (pc' := 284) (fun _ _ _ _ _ L => lv_tableIn (off := 88) (tgt := 284) hx hb dX5_does_196 (by rw [c196_4]; decide) (by rw [c196_4]; decide) (by rw [c196_4]; rfl) (by decide)) ?_
        refine x_up (pc' := 285) (fun _ _ _ _ _ L => lv_aloadq_n hx hb dX5_does_284 rfl (lv_at L 3 rfl)) ?_
        obtain ⟨b374, rfl, hp488⟩ := hp487
        refine x_callVX (em := emI) (fun r st => .int r :: st) (fun _ _ => rfl) 0 X (kX2 hG) (fun σ' KK KX h => R_X2_flushes l hl G hG b374 σ' KK KX h) (lw_V q2526 q2527 q2528 q100 q2529) ⟨rfl, mdX2_flushes⟩ ⟨Nat.le_of_ble_eq_true rfl, Nat.le_of_ble_eq_true rfl⟩ rfl rfl (Nat.le_of_ble_eq_true rfl) dX5_does_285 hp488.1 hp488.2 (fun v375 σ376 hpA285 => ?_) (fun q377 σ378 hpB285 => ?_)
        · have hp489 := hpA285
          refine x_pc (pc' := 288) rfl ?_
          refine x_vx ?_; exact x_iret X hr rfl dX5_does_288 hp489
        · have hp490 := hpB285
          obtain ⟨hq285, hp491⟩ := hp490
          obtain ⟨hr285, hp492⟩ := hp491
          exact x_out X (kX6 hG) (hout 285) hr285 hq285 hp492
      have hp493 := hp486.2 c196_4
      by_cases c196_5 : (-1 : Int32) = (5 : Int32)
      · have hp494 := hp493.1 c196_5
        refine x_up (pc' := 289) (fun _ _ _ _ _ L => lv_tableIn (off := 93) (tgt := 289) hx hb dX5_does_196 (by rw [c196_5]; decide) (by rw [c196_5]; decide) (by rw [c196_5]; rfl) (by decide)) ?_
        refine x_up (pc' := 290) (fun _ _ _ _ _ L => lv_aloadq_n hx hb dX5_does_289 rfl (lv_at L 3 rfl)) ?_
        refine x_up (pc' := 291) (fun _ _ _ _ _ L => lv_aload_n hx hb dX5_does_290 rfl (lv_at L 2 rfl)) ?_
        refine x_gi X (kX5 hG) 1 (by decide) q2137 (fun _ h => h) dX5_does_291 hp494 (fun v379 hp495 => ?_)
        refine x_pc (pc' := 294) rfl ?_
        refine x_up (pc' := 295) (fun _ _ _ _ _ L => lv_aload_n hx hb dX5_does_294 rfl (lv_at L 2 rfl)) ?_
        refine x_gi X (kX5 hG) 2 (by decide) q2138 (fun _ h => h) dX5_does_295 hp495 (fun v380 hp496 => ?_)
        refine x_pc (pc' := 298) rfl ?_
        obtain ⟨b381, rfl, hp497⟩ := hp496
        refine x_callVX (em := emI) (fun r st => .int r :: st) (fun _ _ => rfl) 2 X (kX2 hG) (fun σ' KK KX h => R_X2_deviceWrites l hl G hG b381 v379 v380 σ' KK KX h) (lw_V q2535 q2536 q2537 q100 q2538) ⟨rfl, mdX2_deviceWrites⟩ ⟨Nat.le_of_ble_eq_true rfl, Nat.le_of_ble_eq_true rfl⟩ rfl rfl (Nat.le_of_ble_eq_true rfl) dX5_does_298 hp497.1 hp497.2 (fun v382 σ383 hpA298 => ?_) (fun q384 σ385 hpB298 => ?_)
        · have hp498 := hpA298
          refine x_pc (pc' := 301) rfl ?_
          refine x_vx ?_; exact x_iret X hr rfl dX5_does_301 hp498
        · have hp499 := hpB298
          obtain ⟨hq298, hp500⟩ := hp499
          obtain ⟨hr298, hp501⟩ := hp500
          exact x_out X (kX6 hG) (hout 298) hr298 hq298 hp501
      have hp502 := hp493.2 c196_5
      by_cases c196_6 : (-1 : Int32) = (6 : Int32)
      · have hp503 := hp502.1 c196_6
        refine x_up (pc' := 302) (fun _ _ _ _ _ L => lv_tableIn (off := 106) (tgt := 302) hx hb dX5_does_196 (by rw [c196_6]; decide) (by rw [c196_6]; decide) (by rw [c196_6]; rfl) (by decide)) ?_
        refine x_up (pc' := 303) (fun _ _ _ _ _ L => lv_aloadq_n hx hb dX5_does_302 rfl (lv_at L 3 rfl)) ?_
        refine x_up (pc' := 304) (fun _ _ _ _ _ L => lv_aload_n hx hb dX5_does_303 rfl (lv_at L 2 rfl)) ?_
        refine x_gi X (kX5 hG) 1 (by decide) q2137 (fun _ h => h) dX5_does_304 hp503 (fun v386 hp504 => ?_)
        refine x_pc (pc' := 307) rfl ?_
        obtain ⟨b387, rfl, hp505⟩ := hp504
        refine x_callVX (em := emI) (fun r st => .int r :: st) (fun _ _ => rfl) 1 X (kX2 hG) (fun σ' KK KX h => R_X2_waits l hl G hG b387 v386 σ' KK KX h) (lw_V q2543 q2544 q2545 q100 q2546) ⟨rfl, mdX2_waits⟩ ⟨Nat.le_of_ble_eq_true rfl, Nat.le_of_ble_eq_true rfl⟩ rfl rfl (Nat.le_of_ble_eq_true rfl) dX5_does_307 hp505.1 hp505.2 (fun v388 σ389 hpA307 => ?_) (fun q390 σ391 hpB307 => ?_)
        · have hp506 := hpA307
          refine x_pc (pc' := 310) rfl ?_
          refine x_vx ?_; exact x_iret X hr rfl dX5_does_310 hp506
        · have hp507 := hpB307
          obtain ⟨hq307, hp508⟩ := hp507
          obtain ⟨hr307, hp509⟩ := hp508
          exact x_out X (kX6 hG) (hout 307) hr307 hq307 hp509
      have hp510 := hp502.2 c196_6
      by_cases c196_7 : (-1 : Int32) = (7 : Int32)
      · have hp511 := hp510.1 c196_7
        refine x_up (pc' := 311) (fun _ _ _ _ _ L => lv_tableIn (off := 115) (tgt := 311) hx hb dX5_does_196 (by rw [c196_7]; decide) (by rw [c196_7]; decide) (by rw [c196_7]; rfl) (by decide)) ?_
        refine x_up (pc' := 312) (fun _ _ _ _ _ L => lv_aloadq_n hx hb dX5_does_311 rfl (lv_at L 3 rfl)) ?_
        refine x_up (pc' := 313) (fun _ _ _ _ _ L => lv_aload_n hx hb dX5_does_312 rfl (lv_at L 2 rfl)) ?_
        refine x_gi X (kX5 hG) 1 (by decide) q2137 (fun _ h => h) dX5_does_313 hp511 (fun v392 hp512 => ?_)
        refine x_pc (pc' := 316) rfl ?_
        refine x_up (pc' := 317) (fun _ _ _ _ _ L => lv_aload_n hx hb dX5_does_316 rfl (lv_at L 2 rfl)) ?_
        refine x_gi X (kX5 hG) 2 (by decide) q2138 (fun _ h => h) dX5_does_317 hp512 (fun v393 hp513 => ?_)
        refine x_pc (pc' := 320) rfl ?_
        obtain ⟨b394, rfl, hp514⟩ := hp513
        refine x_callVX (em := emI) (fun r st => .int r :: st) (fun _ _ => rfl) 2 X (kX2 hG) (fun σ' KK KX h => R_X2_shapes l hl G hG b394 v392 v393 σ' KK KX h) (lw_V q2547 q2548 q2549 q100 q2550) ⟨rfl, mdX2_shapes⟩ ⟨Nat.le_of_ble_eq_true rfl, Nat.le_of_ble_eq_true rfl⟩ rfl rfl (Nat.le_of_ble_eq_true rfl) dX5_does_320 hp514.1 hp514.2 (fun v395 σ396 hpA320 => ?_) (fun q397 σ398 hpB320 => ?_)
        · have hp515 := hpA320
          refine x_pc (pc' := 323) rfl ?_
          refine x_vx ?_; exact x_iret X hr rfl dX5_does_323 hp515
        · have hp516 := hpB320
          obtain ⟨hq320, hp517⟩ := hp516
          obtain ⟨hr320, hp518⟩ := hp517
          exact x_out X (kX6 hG) (hout 320) hr320 hq320 hp518
      have hp519 := hp510.2 c196_7
      refine x_up (pc' := 324) (fun _ _ _ _ _ L => lv_tableOut (tgt := 324) hx hb dX5_does_196 (x_tabOut 0 8 (by decide) (by decide) (by decide) (lt_s (lt_s (lt_s (lt_s (lt_s (lt_s (lt_s (lt_s lt_0 c196_0) c196_1) c196_2) c196_3) c196_4) c196_5) c196_6) c196_7)) (by decide)) ?_
      refine x_up (pc' := 325) (fun _ _ _ _ _ L => lv_aloadq_n hx hb dX5_does_324 rfl (lv_at L 3 rfl)) ?_
      refine x_up (pc' := 326) (fun _ _ _ _ _ L => lv_aload_n hx hb dX5_does_325 rfl (lv_at L 2 rfl)) ?_
      refine x_gi X (kX5 hG) 1 (by decide) q2137 (fun _ h => h) dX5_does_326 hp519 (fun v399 hp520 => ?_)
      refine x_pc (pc' := 329) rfl ?_
      obtain ⟨b400, rfl, hp521⟩ := hp520
      refine x_callVX (em := emI) (fun r st => .int r :: st) (fun _ _ => rfl) 1 X (kX2 hG) (fun σ' KK KX h => R_X2_rules l hl G hG b400 v399 σ' KK KX h) (lw_V q2551 q2552 q2553 q100 q2554) ⟨rfl, mdX2_rules⟩ ⟨Nat.le_of_ble_eq_true rfl, Nat.le_of_ble_eq_true rfl⟩ rfl rfl (Nat.le_of_ble_eq_true rfl) dX5_does_329 hp521.1 hp521.2 (fun v401 σ402 hpA329 => ?_) (fun q403 σ404 hpB329 => ?_)
      · have hp522 := hpA329
        refine x_pc (pc' := 332) rfl ?_
        refine x_vx ?_; exact x_iret X hr rfl dX5_does_332 hp522
      · have hp523 := hpB329
        obtain ⟨hq329, hp524⟩ := hp523
        obtain ⟨hr329, hp525⟩ := hp524
        exact x_out X (kX6 hG) (hout 329) hr329 hq329 hp525
    · have hp526 := hp452.2 c90
      refine x_up (pc' := 94) (fun _ _ _ _ _ L => lv_iconst (v := (0 : Int32)) hx hb dX5_does_93 (by decide)) ?_
      refine x_upL (pc' := 95) (lo' := [(3, .int (0 : Int32)), (2, .ref b2), (0, .ref a0), (1, va_rf x1)]) (fun _ _ _ _ _ L => lv_istore_n hx hb dX5_does_94 rfl L (by decide) rfl) ?_
      refine x_up (pc' := 195) (fun _ _ _ _ _ L => lv_goto (tgt := 195) hx hb dX5_does_95 (by decide)) ?_
      refine x_up (pc' := 196) (fun _ _ _ _ _ L => lv_iload_n hx hb dX5_does_195 rfl (lv_at L 0 rfl)) ?_
      by_cases c196_0 : (0 : Int32) = (0 : Int32)
      · have hp527 := hp526.1 c196_0
        refine x_up (pc' := 244) (fun _ _ _ _ _ L => lv_tableIn (off := 48) (tgt := 244) hx hb dX5_does_196 (by rw [c196_0]; decide) (by rw [c196_0]; decide) (by rw [c196_0]; rfl) (by decide)) ?_
        refine x_up (pc' := 245) (fun _ _ _ _ _ L => lv_aloadq_n hx hb dX5_does_244 rfl (lv_at L 3 rfl)) ?_
        refine x_up (pc' := 246) (fun _ _ _ _ _ L => lv_aload_n hx hb dX5_does_245 rfl (lv_at L 2 rfl)) ?_
        refine x_gi X (kX5 hG) 1 (by decide) q2137 (fun _ h => h) dX5_does_246 hp527 (fun v405 hp528 => ?_)
        refine x_pc (pc' := 249) rfl ?_
        obtain ⟨b406, rfl, hp529⟩ := hp528
        refine x_callVX (em := emI) (fun r st => .int r :: st) (fun _ _ => rfl) 1 X (kX2 hG) (fun σ' KK KX h => R_X2_readsWord l hl G hG b406 v405 σ' KK KX h) (lw_V q2225 q2226 q2227 q100 q2228) ⟨rfl, mdX2_readsWord⟩ ⟨Nat.le_of_ble_eq_true rfl, Nat.le_of_ble_eq_true rfl⟩ rfl rfl (Nat.le_of_ble_eq_true rfl) dX5_does_249 hp529.1 hp529.2 (fun v407 σ408 hpA249 => ?_) (fun q409 σ410 hpB249 => ?_)
        · have hp530 := hpA249
          refine x_pc (pc' := 252) rfl ?_
          refine x_vx ?_; exact x_iret X hr rfl dX5_does_252 hp530
        · have hp531 := hpB249
          obtain ⟨hq249, hp532⟩ := hp531
          obtain ⟨hr249, hp533⟩ := hp532
          exact x_out X (kX6 hG) (hout 249) hr249 hq249 hp533
      have hp534 := hp526.2 c196_0
      by_cases c196_1 : (0 : Int32) = (1 : Int32)
      · have hp535 := hp534.1 c196_1
        refine x_up (pc' := 253) (fun _ _ _ _ _ L => lv_tableIn (off := 57) (tgt := 253) hx hb dX5_does_196 (by rw [c196_1]; decide) (by rw [c196_1]; decide) (by rw [c196_1]; rfl) (by decide)) ?_
        refine x_up (pc' := 254) (fun _ _ _ _ _ L => lv_aloadq_n hx hb dX5_does_253 rfl (lv_at L 3 rfl)) ?_
        refine x_up (pc' := 255) (fun _ _ _ _ _ L => lv_aload_n hx hb dX5_does_254 rfl (lv_at L 2 rfl)) ?_
        refine x_gi X (kX5 hG) 1 (by decide) q2137 (fun _ h => h) dX5_does_255 hp535 (fun v411 hp536 => ?_)
        refine x_pc (pc' := 258) rfl ?_
        refine x_up (pc' := 259) (fun _ _ _ _ _ L => lv_aload_n hx hb dX5_does_258 rfl (lv_at L 2 rfl)) ?_
        refine x_gi X (kX5 hG) 2 (by decide) q2138 (fun _ h => h) dX5_does_259 hp536 (fun v412 hp537 => ?_)
        refine x_pc (pc' := 262) rfl ?_
        obtain ⟨b413, rfl, hp538⟩ := hp537
        refine x_callVX (em := emI) (fun r st => .int r :: st) (fun _ _ => rfl) 2 X (kX2 hG) (fun σ' KK KX h => R_X2_writesWord l hl G hG b413 v411 v412 σ' KK KX h) (lw_V q2497 q2498 q2499 q100 q2500) ⟨rfl, mdX2_writesWord⟩ ⟨Nat.le_of_ble_eq_true rfl, Nat.le_of_ble_eq_true rfl⟩ rfl rfl (Nat.le_of_ble_eq_true rfl) dX5_does_262 hp538.1 hp538.2 (fun v414 σ415 hpA262 => ?_) (fun q416 σ417 hpB262 => ?_)
        · have hp539 := hpA262
          refine x_pc (pc' := 265) rfl ?_
          refine x_vx ?_; exact x_iret X hr rfl dX5_does_265 hp539
        · have hp540 := hpB262
          obtain ⟨hq262, hp541⟩ := hp540
          obtain ⟨hr262, hp542⟩ := hp541
          exact x_out X (kX6 hG) (hout 262) hr262 hq262 hp542
      have hp543 := hp534.2 c196_1
      by_cases c196_2 : (0 : Int32) = (2 : Int32)
      · have hp544 := hp543.1 c196_2
        refine x_up (pc' := 266) (fun _ _ _ _ _ L => lv_tableIn (off := 70) (tgt := 266) hx hb dX5_does_196 (by rw [c196_2]; decide) (by rw [c196_2]; decide) (by rw [c196_2]; rfl) (by decide)) ?_
        refine x_up (pc' := 267) (fun _ _ _ _ _ L => lv_aloadq_n hx hb dX5_does_266 rfl (lv_at L 3 rfl)) ?_
        refine x_up (pc' := 268) (fun _ _ _ _ _ L => lv_aload_n hx hb dX5_does_267 rfl (lv_at L 2 rfl)) ?_
        refine x_gi X (kX5 hG) 1 (by decide) q2137 (fun _ h => h) dX5_does_268 hp544 (fun v418 hp545 => ?_)
        refine x_pc (pc' := 271) rfl ?_
        obtain ⟨b419, rfl, hp546⟩ := hp545
        refine x_callVX (em := emI) (fun r st => .int r :: st) (fun _ _ => rfl) 1 X (kX2 hG) (fun σ' KK KX h => R_X2_pins l hl G hG b419 v418 σ' KK KX h) (lw_V q2509 q2510 q2511 q100 q2512) ⟨rfl, mdX2_pins⟩ ⟨Nat.le_of_ble_eq_true rfl, Nat.le_of_ble_eq_true rfl⟩ rfl rfl (Nat.le_of_ble_eq_true rfl) dX5_does_271 hp546.1 hp546.2 (fun v420 σ421 hpA271 => ?_) (fun q422 σ423 hpB271 => ?_)
        · have hp547 := hpA271
          refine x_pc (pc' := 274) rfl ?_
          refine x_vx ?_; exact x_iret X hr rfl dX5_does_274 hp547
        · have hp548 := hpB271
          obtain ⟨hq271, hp549⟩ := hp548
          obtain ⟨hr271, hp550⟩ := hp549
          exact x_out X (kX6 hG) (hout 271) hr271 hq271 hp550
      have hp551 := hp543.2 c196_2
      by_cases c196_3 : (0 : Int32) = (3 : Int32)
      · have hp552 := hp551.1 c196_3
        refine x_up (pc' := 275) (fun _ _ _ _ _ L => lv_tableIn (off := 79) (tgt := 275) hx hb dX5_does_196 (by rw [c196_3]; decide) (by rw [c196_3]; decide) (by rw [c196_3]; rfl) (by decide)) ?_
        refine x_up (pc' := 276) (fun _ _ _ _ _ L => lv_aloadq_n hx hb dX5_does_275 rfl (lv_at L 3 rfl)) ?_
        refine x_up (pc' := 277) (fun _ _ _ _ _ L => lv_aload_n hx hb dX5_does_276 rfl (lv_at L 2 rfl)) ?_
        refine x_gi X (kX5 hG) 1 (by decide) q2137 (fun _ h => h) dX5_does_277 hp552 (fun v424 hp553 => ?_)
        refine x_pc (pc' := 280) rfl ?_
        obtain ⟨b425, rfl, hp554⟩ := hp553
        refine x_callVX (em := emI) (fun r st => .int r :: st) (fun _ _ => rfl) 1 X (kX2 hG) (fun σ' KK KX h => R_X2_frees l hl G hG b425 v424 σ' KK KX h) (lw_V q2522 q2523 q2524 q100 q2525) ⟨rfl, mdX2_frees⟩ ⟨Nat.le_of_ble_eq_true rfl, Nat.le_of_ble_eq_true rfl⟩ rfl rfl (Nat.le_of_ble_eq_true rfl) dX5_does_280 hp554.1 hp554.2 (fun v426 σ427 hpA280 => ?_) (fun q428 σ429 hpB280 => ?_)
        · have hp555 := hpA280
          refine x_pc (pc' := 283) rfl ?_
          refine x_vx ?_; exact x_iret X hr rfl dX5_does_283 hp555
        · have hp556 := hpB280
          obtain ⟨hq280, hp557⟩ := hp556
          obtain ⟨hr280, hp558⟩ := hp557
          exact x_out X (kX6 hG) (hout 280) hr280 hq280 hp558
      have hp559 := hp551.2 c196_3
      by_cases c196_4 : (0 : Int32) = (4 : Int32)
      · have hp560 := hp559.1 c196_4
        refine x_up (pc' := 284) (fun _ _ _ _ _ L => lv_tableIn (off := 88) (tgt := 284) hx hb dX5_does_196 (by rw [c196_4]; decide) (by rw [c196_4]; decide) (by rw [c196_4]; rfl) (by decide)) ?_
        refine x_up (pc' := 285) (fun _ _ _ _ _ L => lv_aloadq_n hx hb dX5_does_284 rfl (lv_at L 3 rfl)) ?_
        obtain ⟨b430, rfl, hp561⟩ := hp560
        refine x_callVX (em := emI) (fun r st => .int r :: st) (fun _ _ => rfl) 0 X (kX2 hG) (fun σ' KK KX h => R_X2_flushes l hl G hG b430 σ' KK KX h) (lw_V q2526 q2527 q2528 q100 q2529) ⟨rfl, mdX2_flushes⟩ ⟨Nat.le_of_ble_eq_true rfl, Nat.le_of_ble_eq_true rfl⟩ rfl rfl (Nat.le_of_ble_eq_true rfl) dX5_does_285 hp561.1 hp561.2 (fun v431 σ432 hpA285 => ?_) (fun q433 σ434 hpB285 => ?_)
        · have hp562 := hpA285
          refine x_pc (pc' := 288) rfl ?_
          refine x_vx ?_; exact x_iret X hr rfl dX5_does_288 hp562
        · have hp563 := hpB285
          obtain ⟨hq285, hp564⟩ := hp563
          obtain ⟨hr285, hp565⟩ := hp564
          exact x_out X (kX6 hG) (hout 285) hr285 hq285 hp565
      have hp566 := hp559.2 c196_4
      by_cases c196_5 : (0 : Int32) = (5 : Int32)
      · have hp567 := hp566.1 c196_5
        refine x_up (pc' := 289) (fun _ _ _ _ _ L => lv_tableIn (off := 93) (tgt := 289) hx hb dX5_does_196 (by rw [c196_5]; decide) (by rw [c196_5]; decide) (by rw [c196_5]; rfl) (by decide)) ?_
        refine x_up (pc' := 290) (fun _ _ _ _ _ L => lv_aloadq_n hx hb dX5_does_289 rfl (lv_at L 3 rfl)) ?_
        refine x_up (pc' := 291) (fun _ _ _ _ _ L => lv_aload_n hx hb dX5_does_290 rfl (lv_at L 2 rfl)) ?_
        refine x_gi X (kX5 hG) 1 (by decide) q2137 (fun _ h => h) dX5_does_291 hp567 (fun v435 hp568 => ?_)
        refine x_pc (pc' := 294) rfl ?_
        refine x_up (pc' := 295) (fun _ _ _ _ _ L => lv_aload_n hx hb dX5_does_294 rfl (lv_at L 2 rfl)) ?_
        refine x_gi X (kX5 hG) 2 (by decide) q2138 (fun _ h => h) dX5_does_295 hp568 (fun v436 hp569 => ?_)
        refine x_pc (pc' := 298) rfl ?_
        obtain ⟨b437, rfl, hp570⟩ := hp569
        refine x_callVX (em := emI) (fun r st => .int r :: st) (fun _ _ => rfl) 2 X (kX2 hG) (fun σ' KK KX h => R_X2_deviceWrites l hl G hG b437 v435 v436 σ' KK KX h) (lw_V q2535 q2536 q2537 q100 q2538) ⟨rfl, mdX2_deviceWrites⟩ ⟨Nat.le_of_ble_eq_true rfl, Nat.le_of_ble_eq_true rfl⟩ rfl rfl (Nat.le_of_ble_eq_true rfl) dX5_does_298 hp570.1 hp570.2 (fun v438 σ439 hpA298 => ?_) (fun q440 σ441 hpB298 => ?_)
        · have hp571 := hpA298
          refine x_pc (pc' := 301) rfl ?_
          refine x_vx ?_; exact x_iret X hr rfl dX5_does_301 hp571
        · have hp572 := hpB298
          obtain ⟨hq298, hp573⟩ := hp572
          obtain ⟨hr298, hp574⟩ := hp573
          exact x_out X (kX6 hG) (hout 298) hr298 hq298 hp574
      have hp575 := hp566.2 c196_5
      by_cases c196_6 : (0 : Int32) = (6 : Int32)
      · have hp576 := hp575.1 c196_6
        refine x_up (pc' := 302) (fun _ _ _ _ _ L => lv_tableIn (off := 106) (tgt := 302) hx hb dX5_does_196 (by rw [c196_6]; decide) (by rw [c196_6]; decide) (by rw [c196_6]; rfl) (by decide)) ?_
        refine x_up (pc' := 303) (fun _ _ _ _ _ L => lv_aloadq_n hx hb dX5_does_302 rfl (lv_at L 3 rfl)) ?_
        refine x_up (pc' := 304) (fun _ _ _ _ _ L => lv_aload_n hx hb dX5_does_303 rfl (lv_at L 2 rfl)) ?_
        refine x_gi X (kX5 hG) 1 (by decide) q2137 (fun _ h => h) dX5_does_304 hp576 (fun v442 hp577 => ?_)
        refine x_pc (pc' := 307) rfl ?_
        obtain ⟨b443, rfl, hp578⟩ := hp577
        refine x_callVX (em := emI) (fun r st => .int r :: st) (fun _ _ => rfl) 1 X (kX2 hG) (fun σ' KK KX h => R_X2_waits l hl G hG b443 v442 σ' KK KX h) (lw_V q2543 q2544 q2545 q100 q2546) ⟨rfl, mdX2_waits⟩ ⟨Nat.le_of_ble_eq_true rfl, Nat.le_of_ble_eq_true rfl⟩ rfl rfl (Nat.le_of_ble_eq_true rfl) dX5_does_307 hp578.1 hp578.2 (fun v444 σ445 hpA307 => ?_) (fun q446 σ447 hpB307 => ?_)
        · have hp579 := hpA307
          refine x_pc (pc' := 310) rfl ?_
          refine x_vx ?_; exact x_iret X hr rfl dX5_does_310 hp579
        · have hp580 := hpB307
          obtain ⟨hq307, hp581⟩ := hp580
          obtain ⟨hr307, hp582⟩ := hp581
          exact x_out X (kX6 hG) (hout 307) hr307 hq307 hp582
      have hp583 := hp575.2 c196_6
      by_cases c196_7 : (0 : Int32) = (7 : Int32)
      · have hp584 := hp583.1 c196_7
        refine x_up (pc' := 311) (fun _ _ _ _ _ L => lv_tableIn (off := 115) (tgt := 311) hx hb dX5_does_196 (by rw [c196_7]; decide) (by rw [c196_7]; decide) (by rw [c196_7]; rfl) (by decide)) ?_
        refine x_up (pc' := 312) (fun _ _ _ _ _ L => lv_aloadq_n hx hb dX5_does_311 rfl (lv_at L 3 rfl)) ?_
        refine x_up (pc' := 313) (fun _ _ _ _ _ L => lv_aload_n hx hb dX5_does_312 rfl (lv_at L 2 rfl)) ?_
        refine x_gi X (kX5 hG) 1 (by decide) q2137 (fun _ h => h) dX5_does_313 hp584 (fun v448 hp585 => ?_)
        refine x_pc (pc' := 316) rfl ?_
        refine x_up (pc' := 317) (fun _ _ _ _ _ L => lv_aload_n hx hb dX5_does_316 rfl (lv_at L 2 rfl)) ?_
        refine x_gi X (kX5 hG) 2 (by decide) q2138 (fun _ h => h) dX5_does_317 hp585 (fun v449 hp586 => ?_)
        refine x_pc (pc' := 320) rfl ?_
        obtain ⟨b450, rfl, hp587⟩ := hp586
        refine x_callVX (em := emI) (fun r st => .int r :: st) (fun _ _ => rfl) 2 X (kX2 hG) (fun σ' KK KX h => R_X2_shapes l hl G hG b450 v448 v449 σ' KK KX h) (lw_V q2547 q2548 q2549 q100 q2550) ⟨rfl, mdX2_shapes⟩ ⟨Nat.le_of_ble_eq_true rfl, Nat.le_of_ble_eq_true rfl⟩ rfl rfl (Nat.le_of_ble_eq_true rfl) dX5_does_320 hp587.1 hp587.2 (fun v451 σ452 hpA320 => ?_) (fun q453 σ454 hpB320 => ?_)
        · have hp588 := hpA320
          refine x_pc (pc' := 323) rfl ?_
          refine x_vx ?_; exact x_iret X hr rfl dX5_does_323 hp588
        · have hp589 := hpB320
          obtain ⟨hq320, hp590⟩ := hp589
          obtain ⟨hr320, hp591⟩ := hp590
          exact x_out X (kX6 hG) (hout 320) hr320 hq320 hp591
      have hp592 := hp583.2 c196_7
      refine x_up (pc' := 324) (fun _ _ _ _ _ L => lv_tableOut (tgt := 324) hx hb dX5_does_196 (x_tabOut 0 8 (by decide) (by decide) (by decide) (lt_s (lt_s (lt_s (lt_s (lt_s (lt_s (lt_s (lt_s lt_0 c196_0) c196_1) c196_2) c196_3) c196_4) c196_5) c196_6) c196_7)) (by decide)) ?_
      refine x_up (pc' := 325) (fun _ _ _ _ _ L => lv_aloadq_n hx hb dX5_does_324 rfl (lv_at L 3 rfl)) ?_
      refine x_up (pc' := 326) (fun _ _ _ _ _ L => lv_aload_n hx hb dX5_does_325 rfl (lv_at L 2 rfl)) ?_
      refine x_gi X (kX5 hG) 1 (by decide) q2137 (fun _ h => h) dX5_does_326 hp592 (fun v455 hp593 => ?_)
      refine x_pc (pc' := 329) rfl ?_
      obtain ⟨b456, rfl, hp594⟩ := hp593
      refine x_callVX (em := emI) (fun r st => .int r :: st) (fun _ _ => rfl) 1 X (kX2 hG) (fun σ' KK KX h => R_X2_rules l hl G hG b456 v455 σ' KK KX h) (lw_V q2551 q2552 q2553 q100 q2554) ⟨rfl, mdX2_rules⟩ ⟨Nat.le_of_ble_eq_true rfl, Nat.le_of_ble_eq_true rfl⟩ rfl rfl (Nat.le_of_ble_eq_true rfl) dX5_does_329 hp594.1 hp594.2 (fun v457 σ458 hpA329 => ?_) (fun q459 σ460 hpB329 => ?_)
      · have hp595 := hpA329
        refine x_pc (pc' := 332) rfl ?_
        refine x_vx ?_; exact x_iret X hr rfl dX5_does_332 hp595
      · have hp596 := hpB329
        obtain ⟨hq329, hp597⟩ := hp596
        obtain ⟨hr329, hp598⟩ := hp597
        exact x_out X (kX6 hG) (hout 329) hr329 hq329 hp598
  have hp599 := hp450.2 c11_3
  by_cases c11_4 : v3 = (97532676 : Int32)
  · have hp600 := hp599.1 c11_4
    refine x_up (pc' := 140) (fun _ _ _ _ _ L => lv_lookup (off := 129) (tgt := 140) hx hb dX5_does_11 (by decide) (by rw [c11_4]; rfl) (by decide)) ?_
    refine x_up (pc' := 141) (fun _ _ _ _ _ L => lv_aload_n hx hb dX5_does_140 rfl (lv_at L 1 rfl)) ?_
    refine x_ldcS (tx := "flush") (q := G.2 15) X (by simp [x_ss, RX5]) dX5_does_141 ?_
    refine x_pc (pc' := 143) rfl ?_
    refine x_callV (em := emI) (fun r st => .int r :: st) (fun _ _ => rfl) 1 X (kJ14 hG) (fun σ' KK h => R_J14_equals l hl G hG b2 (some (G.2 15)) σ' KK h) (lw_V q2217 q679 q3698 q117 q680) ⟨rfl, mdJ14_equals⟩ ⟨Nat.le_of_ble_eq_true rfl, Nat.le_of_ble_eq_true rfl⟩ rfl rfl (Nat.le_of_ble_eq_true rfl) dX5_does_143 hp600.1 hp600.2 (fun v461 σ462 hp601 => ?_)
    refine x_pc (pc' := 146) rfl ?_
    refine x_if (C := v461 = 0) (pt := 195) (pc' := 149) (fun _ _ _ _ _ => lv_if_eq (tgt := 195) hx hb dX5_does_146 (by decide)) (fun c146 => ?_) (fun c146 => ?_)
    · have hp602 := hp601.1 c146
      refine x_up (pc' := 196) (fun _ _ _ _ _ L => lv_iload_n hx hb dX5_does_195 rfl (lv_at L 0 rfl)) ?_
      by_cases c196_0 : (-1 : Int32) = (0 : Int32)
      · have hp603 := hp602.1 c196_0
        refine x_up (pc' := 244) (fun _ _ _ _ _ L => lv_tableIn (off := 48) (tgt := 244) hx hb dX5_does_196 (by rw [c196_0]; decide) (by rw [c196_0]; decide) (by rw [c196_0]; rfl) (by decide)) ?_
        refine x_up (pc' := 245) (fun _ _ _ _ _ L => lv_aloadq_n hx hb dX5_does_244 rfl (lv_at L 3 rfl)) ?_
        refine x_up (pc' := 246) (fun _ _ _ _ _ L => lv_aload_n hx hb dX5_does_245 rfl (lv_at L 2 rfl)) ?_
        refine x_gi X (kX5 hG) 1 (by decide) q2137 (fun _ h => h) dX5_does_246 hp603 (fun v463 hp604 => ?_)
        refine x_pc (pc' := 249) rfl ?_
        obtain ⟨b464, rfl, hp605⟩ := hp604
        refine x_callVX (em := emI) (fun r st => .int r :: st) (fun _ _ => rfl) 1 X (kX2 hG) (fun σ' KK KX h => R_X2_readsWord l hl G hG b464 v463 σ' KK KX h) (lw_V q2225 q2226 q2227 q100 q2228) ⟨rfl, mdX2_readsWord⟩ ⟨Nat.le_of_ble_eq_true rfl, Nat.le_of_ble_eq_true rfl⟩ rfl rfl (Nat.le_of_ble_eq_true rfl) dX5_does_249 hp605.1 hp605.2 (fun v465 σ466 hpA249 => ?_) (fun q467 σ468 hpB249 => ?_)
        · have hp606 := hpA249
          refine x_pc (pc' := 252) rfl ?_
          refine x_vx ?_; exact x_iret X hr rfl dX5_does_252 hp606
        · have hp607 := hpB249
          obtain ⟨hq249, hp608⟩ := hp607
          obtain ⟨hr249, hp609⟩ := hp608
          exact x_out X (kX6 hG) (hout 249) hr249 hq249 hp609
      have hp610 := hp602.2 c196_0
      by_cases c196_1 : (-1 : Int32) = (1 : Int32)
      · have hp611 := hp610.1 c196_1
        refine x_up (pc' := 253) (fun _ _ _ _ _ L => lv_tableIn (off := 57) (tgt := 253) hx hb dX5_does_196 (by rw [c196_1]; decide) (by rw [c196_1]; decide) (by rw [c196_1]; rfl) (by decide)) ?_
        refine x_up (pc' := 254) (fun _ _ _ _ _ L => lv_aloadq_n hx hb dX5_does_253 rfl (lv_at L 3 rfl)) ?_
        refine x_up (pc' := 255) (fun _ _ _ _ _ L => lv_aload_n hx hb dX5_does_254 rfl (lv_at L 2 rfl)) ?_
        refine x_gi X (kX5 hG) 1 (by decide) q2137 (fun _ h => h) dX5_does_255 hp611 (fun v469 hp612 => ?_)
        refine x_pc (pc' := 258) rfl ?_
        refine x_up (pc' := 259) (fun _ _ _ _ _ L => lv_aload_n hx hb dX5_does_258 rfl (lv_at L 2 rfl)) ?_
        refine x_gi X (kX5 hG) 2 (by decide) q2138 (fun _ h => h) dX5_does_259 hp612 (fun v470 hp613 => ?_)
        refine x_pc (pc' := 262) rfl ?_
        obtain ⟨b471, rfl, hp614⟩ := hp613
        refine x_callVX (em := emI) (fun r st => .int r :: st) (fun _ _ => rfl) 2 X (kX2 hG) (fun σ' KK KX h => R_X2_writesWord l hl G hG b471 v469 v470 σ' KK KX h) (lw_V q2497 q2498 q2499 q100 q2500) ⟨rfl, mdX2_writesWord⟩ ⟨Nat.le_of_ble_eq_true rfl, Nat.le_of_ble_eq_true rfl⟩ rfl rfl (Nat.le_of_ble_eq_true rfl) dX5_does_262 hp614.1 hp614.2 (fun v472 σ473 hpA262 => ?_) (fun q474 σ475 hpB262 => ?_)
        · have hp615 := hpA262
          refine x_pc (pc' := 265) rfl ?_
          refine x_vx ?_; exact x_iret X hr rfl dX5_does_265 hp615
        · have hp616 := hpB262
          obtain ⟨hq262, hp617⟩ := hp616
          obtain ⟨hr262, hp618⟩ := hp617
          exact x_out X (kX6 hG) (hout 262) hr262 hq262 hp618
      have hp619 := hp610.2 c196_1
      by_cases c196_2 : (-1 : Int32) = (2 : Int32)
      · have hp620 := hp619.1 c196_2
        refine x_up (pc' := 266) (fun _ _ _ _ _ L => lv_tableIn (off := 70) (tgt := 266) hx hb dX5_does_196 (by rw [c196_2]; decide) (by rw [c196_2]; decide) (by rw [c196_2]; rfl) (by decide)) ?_
        refine x_up (pc' := 267) (fun _ _ _ _ _ L => lv_aloadq_n hx hb dX5_does_266 rfl (lv_at L 3 rfl)) ?_
        refine x_up (pc' := 268) (fun _ _ _ _ _ L => lv_aload_n hx hb dX5_does_267 rfl (lv_at L 2 rfl)) ?_
        refine x_gi X (kX5 hG) 1 (by decide) q2137 (fun _ h => h) dX5_does_268 hp620 (fun v476 hp621 => ?_)
        refine x_pc (pc' := 271) rfl ?_
        obtain ⟨b477, rfl, hp622⟩ := hp621
        refine x_callVX (em := emI) (fun r st => .int r :: st) (fun _ _ => rfl) 1 X (kX2 hG) (fun σ' KK KX h => R_X2_pins l hl G hG b477 v476 σ' KK KX h) (lw_V q2509 q2510 q2511 q100 q2512) ⟨rfl, mdX2_pins⟩ ⟨Nat.le_of_ble_eq_true rfl, Nat.le_of_ble_eq_true rfl⟩ rfl rfl (Nat.le_of_ble_eq_true rfl) dX5_does_271 hp622.1 hp622.2 (fun v478 σ479 hpA271 => ?_) (fun q480 σ481 hpB271 => ?_)
        · have hp623 := hpA271
          refine x_pc (pc' := 274) rfl ?_
          refine x_vx ?_; exact x_iret X hr rfl dX5_does_274 hp623
        · have hp624 := hpB271
          obtain ⟨hq271, hp625⟩ := hp624
          obtain ⟨hr271, hp626⟩ := hp625
          exact x_out X (kX6 hG) (hout 271) hr271 hq271 hp626
      have hp627 := hp619.2 c196_2
      by_cases c196_3 : (-1 : Int32) = (3 : Int32)
      · have hp628 := hp627.1 c196_3
        refine x_up (pc' := 275) (fun _ _ _ _ _ L => lv_tableIn (off := 79) (tgt := 275) hx hb dX5_does_196 (by rw [c196_3]; decide) (by rw [c196_3]; decide) (by rw [c196_3]; rfl) (by decide)) ?_
        refine x_up (pc' := 276) (fun _ _ _ _ _ L => lv_aloadq_n hx hb dX5_does_275 rfl (lv_at L 3 rfl)) ?_
        refine x_up (pc' := 277) (fun _ _ _ _ _ L => lv_aload_n hx hb dX5_does_276 rfl (lv_at L 2 rfl)) ?_
        refine x_gi X (kX5 hG) 1 (by decide) q2137 (fun _ h => h) dX5_does_277 hp628 (fun v482 hp629 => ?_)
        refine x_pc (pc' := 280) rfl ?_
        obtain ⟨b483, rfl, hp630⟩ := hp629
        refine x_callVX (em := emI) (fun r st => .int r :: st) (fun _ _ => rfl) 1 X (kX2 hG) (fun σ' KK KX h => R_X2_frees l hl G hG b483 v482 σ' KK KX h) (lw_V q2522 q2523 q2524 q100 q2525) ⟨rfl, mdX2_frees⟩ ⟨Nat.le_of_ble_eq_true rfl, Nat.le_of_ble_eq_true rfl⟩ rfl rfl (Nat.le_of_ble_eq_true rfl) dX5_does_280 hp630.1 hp630.2 (fun v484 σ485 hpA280 => ?_) (fun q486 σ487 hpB280 => ?_)
        · have hp631 := hpA280
          refine x_pc (pc' := 283) rfl ?_
          refine x_vx ?_; exact x_iret X hr rfl dX5_does_283 hp631
        · have hp632 := hpB280
          obtain ⟨hq280, hp633⟩ := hp632
          obtain ⟨hr280, hp634⟩ := hp633
          exact x_out X (kX6 hG) (hout 280) hr280 hq280 hp634
      have hp635 := hp627.2 c196_3
      by_cases c196_4 : (-1 : Int32) = (4 : Int32)
      · have hp636 := hp635.1 c196_4
        refine x_up (pc' := 284) (fun _ _ _ _ _ L => lv_tableIn (off := 88) (tgt := 284) hx hb dX5_does_196 (by rw [c196_4]; decide) (by rw [c196_4]; decide) (by rw [c196_4]; rfl) (by decide)) ?_
        refine x_up (pc' := 285) (fun _ _ _ _ _ L => lv_aloadq_n hx hb dX5_does_284 rfl (lv_at L 3 rfl)) ?_
        obtain ⟨b488, rfl, hp637⟩ := hp636
        refine x_callVX (em := emI) (fun r st => .int r :: st) (fun _ _ => rfl) 0 X (kX2 hG) (fun σ' KK KX h => R_X2_flushes l hl G hG b488 σ' KK KX h) (lw_V q2526 q2527 q2528 q100 q2529) ⟨rfl, mdX2_flushes⟩ ⟨Nat.le_of_ble_eq_true rfl, Nat.le_of_ble_eq_true rfl⟩ rfl rfl (Nat.le_of_ble_eq_true rfl) dX5_does_285 hp637.1 hp637.2 (fun v489 σ490 hpA285 => ?_) (fun q491 σ492 hpB285 => ?_)
        · have hp638 := hpA285
          refine x_pc (pc' := 288) rfl ?_
          refine x_vx ?_; exact x_iret X hr rfl dX5_does_288 hp638
        · have hp639 := hpB285
          obtain ⟨hq285, hp640⟩ := hp639
          obtain ⟨hr285, hp641⟩ := hp640
          exact x_out X (kX6 hG) (hout 285) hr285 hq285 hp641
      have hp642 := hp635.2 c196_4
      by_cases c196_5 : (-1 : Int32) = (5 : Int32)
      · have hp643 := hp642.1 c196_5
        refine x_up (pc' := 289) (fun _ _ _ _ _ L => lv_tableIn (off := 93) (tgt := 289) hx hb dX5_does_196 (by rw [c196_5]; decide) (by rw [c196_5]; decide) (by rw [c196_5]; rfl) (by decide)) ?_
        refine x_up (pc' := 290) (fun _ _ _ _ _ L => lv_aloadq_n hx hb dX5_does_289 rfl (lv_at L 3 rfl)) ?_
        refine x_up (pc' := 291) (fun _ _ _ _ _ L => lv_aload_n hx hb dX5_does_290 rfl (lv_at L 2 rfl)) ?_
        refine x_gi X (kX5 hG) 1 (by decide) q2137 (fun _ h => h) dX5_does_291 hp643 (fun v493 hp644 => ?_)
        refine x_pc (pc' := 294) rfl ?_
        refine x_up (pc' := 295) (fun _ _ _ _ _ L => lv_aload_n hx hb dX5_does_294 rfl (lv_at L 2 rfl)) ?_
        refine x_gi X (kX5 hG) 2 (by decide) q2138 (fun _ h => h) dX5_does_295 hp644 (fun v494 hp645 => ?_)
        refine x_pc (pc' := 298) rfl ?_
        obtain ⟨b495, rfl, hp646⟩ := hp645
        refine x_callVX (em := emI) (fun r st => .int r :: st) (fun _ _ => rfl) 2 X (kX2 hG) (fun σ' KK KX h => R_X2_deviceWrites l hl G hG b495 v493 v494 σ' KK KX h) (lw_V q2535 q2536 q2537 q100 q2538) ⟨rfl, mdX2_deviceWrites⟩ ⟨Nat.le_of_ble_eq_true rfl, Nat.le_of_ble_eq_true rfl⟩ rfl rfl (Nat.le_of_ble_eq_true rfl) dX5_does_298 hp646.1 hp646.2 (fun v496 σ497 hpA298 => ?_) (fun q498 σ499 hpB298 => ?_)
        · have hp647 := hpA298
          refine x_pc (pc' := 301) rfl ?_
          refine x_vx ?_; exact x_iret X hr rfl dX5_does_301 hp647
        · have hp648 := hpB298
          obtain ⟨hq298, hp649⟩ := hp648
          obtain ⟨hr298, hp650⟩ := hp649
          exact x_out X (kX6 hG) (hout 298) hr298 hq298 hp650
      have hp651 := hp642.2 c196_5
      by_cases c196_6 : (-1 : Int32) = (6 : Int32)
      · have hp652 := hp651.1 c196_6
        refine x_up (pc' := 302) (fun _ _ _ _ _ L => lv_tableIn (off := 106) (tgt := 302) hx hb dX5_does_196 (by rw [c196_6]; decide) (by rw [c196_6]; decide) (by rw [c196_6]; rfl) (by decide)) ?_
        refine x_up (pc' := 303) (fun _ _ _ _ _ L => lv_aloadq_n hx hb dX5_does_302 rfl (lv_at L 3 rfl)) ?_
        refine x_up (pc' := 304) (fun _ _ _ _ _ L => lv_aload_n hx hb dX5_does_303 rfl (lv_at L 2 rfl)) ?_
        refine x_gi X (kX5 hG) 1 (by decide) q2137 (fun _ h => h) dX5_does_304 hp652 (fun v500 hp653 => ?_)
        refine x_pc (pc' := 307) rfl ?_
        obtain ⟨b501, rfl, hp654⟩ := hp653
        refine x_callVX (em := emI) (fun r st => .int r :: st) (fun _ _ => rfl) 1 X (kX2 hG) (fun σ' KK KX h => R_X2_waits l hl G hG b501 v500 σ' KK KX h) (lw_V q2543 q2544 q2545 q100 q2546) ⟨rfl, mdX2_waits⟩ ⟨Nat.le_of_ble_eq_true rfl, Nat.le_of_ble_eq_true rfl⟩ rfl rfl (Nat.le_of_ble_eq_true rfl) dX5_does_307 hp654.1 hp654.2 (fun v502 σ503 hpA307 => ?_) (fun q504 σ505 hpB307 => ?_)
        · have hp655 := hpA307
          refine x_pc (pc' := 310) rfl ?_
          refine x_vx ?_; exact x_iret X hr rfl dX5_does_310 hp655
        · have hp656 := hpB307
          obtain ⟨hq307, hp657⟩ := hp656
          obtain ⟨hr307, hp658⟩ := hp657
          exact x_out X (kX6 hG) (hout 307) hr307 hq307 hp658
      have hp659 := hp651.2 c196_6
      by_cases c196_7 : (-1 : Int32) = (7 : Int32)
      · have hp660 := hp659.1 c196_7
        refine x_up (pc' := 311) (fun _ _ _ _ _ L => lv_tableIn (off := 115) (tgt := 311) hx hb dX5_does_196 (by rw [c196_7]; decide) (by rw [c196_7]; decide) (by rw [c196_7]; rfl) (by decide)) ?_
        refine x_up (pc' := 312) (fun _ _ _ _ _ L => lv_aloadq_n hx hb dX5_does_311 rfl (lv_at L 3 rfl)) ?_
        refine x_up (pc' := 313) (fun _ _ _ _ _ L => lv_aload_n hx hb dX5_does_312 rfl (lv_at L 2 rfl)) ?_
        refine x_gi X (kX5 hG) 1 (by decide) q2137 (fun _ h => h) dX5_does_313 hp660 (fun v506 hp661 => ?_)
        refine x_pc (pc' := 316) rfl ?_
        refine x_up (pc' := 317) (fun _ _ _ _ _ L => lv_aload_n hx hb dX5_does_316 rfl (lv_at L 2 rfl)) ?_
        refine x_gi X (kX5 hG) 2 (by decide) q2138 (fun _ h => h) dX5_does_317 hp661 (fun v507 hp662 => ?_)
        refine x_pc (pc' := 320) rfl ?_
        obtain ⟨b508, rfl, hp663⟩ := hp662
        refine x_callVX (em := emI) (fun r st => .int r :: st) (fun _ _ => rfl) 2 X (kX2 hG) (fun σ' KK KX h => R_X2_shapes l hl G hG b508 v506 v507 σ' KK KX h) (lw_V q2547 q2548 q2549 q100 q2550) ⟨rfl, mdX2_shapes⟩ ⟨Nat.le_of_ble_eq_true rfl, Nat.le_of_ble_eq_true rfl⟩ rfl rfl (Nat.le_of_ble_eq_true rfl) dX5_does_320 hp663.1 hp663.2 (fun v509 σ510 hpA320 => ?_) (fun q511 σ512 hpB320 => ?_)
        · have hp664 := hpA320
          refine x_pc (pc' := 323) rfl ?_
          refine x_vx ?_; exact x_iret X hr rfl dX5_does_323 hp664
        · have hp665 := hpB320
          obtain ⟨hq320, hp666⟩ := hp665
          obtain ⟨hr320, hp667⟩ := hp666
          exact x_out X (kX6 hG) (hout 320) hr320 hq320 hp667
      have hp668 := hp659.2 c196_7
      refine x_up (pc' := 324) (fun _ _ _ _ _ L => lv_tableOut (tgt := 324) hx hb dX5_does_196 (x_tabOut 0 8 (by decide) (by decide) (by decide) (lt_s (lt_s (lt_s (lt_s (lt_s (lt_s (lt_s (lt_s lt_0 c196_0) c196_1) c196_2) c196_3) c196_4) c196_5) c196_6) c196_7)) (by decide)) ?_
      refine x_up (pc' := 325) (fun _ _ _ _ _ L => lv_aloadq_n hx hb dX5_does_324 rfl (lv_at L 3 rfl)) ?_
      refine x_up (pc' := 326) (fun _ _ _ _ _ L => lv_aload_n hx hb dX5_does_325 rfl (lv_at L 2 rfl)) ?_
      refine x_gi X (kX5 hG) 1 (by decide) q2137 (fun _ h => h) dX5_does_326 hp668 (fun v513 hp669 => ?_)
      refine x_pc (pc' := 329) rfl ?_
      obtain ⟨b514, rfl, hp670⟩ := hp669
      refine x_callVX (em := emI) (fun r st => .int r :: st) (fun _ _ => rfl) 1 X (kX2 hG) (fun σ' KK KX h => R_X2_rules l hl G hG b514 v513 σ' KK KX h) (lw_V q2551 q2552 q2553 q100 q2554) ⟨rfl, mdX2_rules⟩ ⟨Nat.le_of_ble_eq_true rfl, Nat.le_of_ble_eq_true rfl⟩ rfl rfl (Nat.le_of_ble_eq_true rfl) dX5_does_329 hp670.1 hp670.2 (fun v515 σ516 hpA329 => ?_) (fun q517 σ518 hpB329 => ?_)
      · have hp671 := hpA329
        refine x_pc (pc' := 332) rfl ?_
        refine x_vx ?_; exact x_iret X hr rfl dX5_does_332 hp671
      · have hp672 := hpB329
        obtain ⟨hq329, hp673⟩ := hp672
        obtain ⟨hr329, hp674⟩ := hp673
        exact x_out X (kX6 hG) (hout 329) hr329 hq329 hp674
    · have hp675 := hp601.2 c146
      refine x_up (pc' := 150) (fun _ _ _ _ _ L => lv_iconst (v := (4 : Int32)) hx hb dX5_does_149 (by decide)) ?_
      refine x_upL (pc' := 151) (lo' := [(3, .int (4 : Int32)), (2, .ref b2), (0, .ref a0), (1, va_rf x1)]) (fun _ _ _ _ _ L => lv_istore_n hx hb dX5_does_150 rfl L (by decide) rfl) ?_
      refine x_up (pc' := 195) (fun _ _ _ _ _ L => lv_goto (tgt := 195) hx hb dX5_does_151 (by decide)) ?_
      refine x_up (pc' := 196) (fun _ _ _ _ _ L => lv_iload_n hx hb dX5_does_195 rfl (lv_at L 0 rfl)) ?_
      by_cases c196_0 : (4 : Int32) = (0 : Int32)
      · have hp676 := hp675.1 c196_0
        refine x_up (pc' := 244) (fun _ _ _ _ _ L => lv_tableIn (off := 48) (tgt := 244) hx hb dX5_does_196 (by rw [c196_0]; decide) (by rw [c196_0]; decide) (by rw [c196_0]; rfl) (by decide)) ?_
        refine x_up (pc' := 245) (fun _ _ _ _ _ L => lv_aloadq_n hx hb dX5_does_244 rfl (lv_at L 3 rfl)) ?_
        refine x_up (pc' := 246) (fun _ _ _ _ _ L => lv_aload_n hx hb dX5_does_245 rfl (lv_at L 2 rfl)) ?_
        refine x_gi X (kX5 hG) 1 (by decide) q2137 (fun _ h => h) dX5_does_246 hp676 (fun v519 hp677 => ?_)
        refine x_pc (pc' := 249) rfl ?_
        obtain ⟨b520, rfl, hp678⟩ := hp677
        refine x_callVX (em := emI) (fun r st => .int r :: st) (fun _ _ => rfl) 1 X (kX2 hG) (fun σ' KK KX h => R_X2_readsWord l hl G hG b520 v519 σ' KK KX h) (lw_V q2225 q2226 q2227 q100 q2228) ⟨rfl, mdX2_readsWord⟩ ⟨Nat.le_of_ble_eq_true rfl, Nat.le_of_ble_eq_true rfl⟩ rfl rfl (Nat.le_of_ble_eq_true rfl) dX5_does_249 hp678.1 hp678.2 (fun v521 σ522 hpA249 => ?_) (fun q523 σ524 hpB249 => ?_)
        · have hp679 := hpA249
          refine x_pc (pc' := 252) rfl ?_
          refine x_vx ?_; exact x_iret X hr rfl dX5_does_252 hp679
        · have hp680 := hpB249
          obtain ⟨hq249, hp681⟩ := hp680
          obtain ⟨hr249, hp682⟩ := hp681
          exact x_out X (kX6 hG) (hout 249) hr249 hq249 hp682
      have hp683 := hp675.2 c196_0
      by_cases c196_1 : (4 : Int32) = (1 : Int32)
      · have hp684 := hp683.1 c196_1
        refine x_up (pc' := 253) (fun _ _ _ _ _ L => lv_tableIn (off := 57) (tgt := 253) hx hb dX5_does_196 (by rw [c196_1]; decide) (by rw [c196_1]; decide) (by rw [c196_1]; rfl) (by decide)) ?_
        refine x_up (pc' := 254) (fun _ _ _ _ _ L => lv_aloadq_n hx hb dX5_does_253 rfl (lv_at L 3 rfl)) ?_
        refine x_up (pc' := 255) (fun _ _ _ _ _ L => lv_aload_n hx hb dX5_does_254 rfl (lv_at L 2 rfl)) ?_
        refine x_gi X (kX5 hG) 1 (by decide) q2137 (fun _ h => h) dX5_does_255 hp684 (fun v525 hp685 => ?_)
        refine x_pc (pc' := 258) rfl ?_
        refine x_up (pc' := 259) (fun _ _ _ _ _ L => lv_aload_n hx hb dX5_does_258 rfl (lv_at L 2 rfl)) ?_
        refine x_gi X (kX5 hG) 2 (by decide) q2138 (fun _ h => h) dX5_does_259 hp685 (fun v526 hp686 => ?_)
        refine x_pc (pc' := 262) rfl ?_
        obtain ⟨b527, rfl, hp687⟩ := hp686
        refine x_callVX (em := emI) (fun r st => .int r :: st) (fun _ _ => rfl) 2 X (kX2 hG) (fun σ' KK KX h => R_X2_writesWord l hl G hG b527 v525 v526 σ' KK KX h) (lw_V q2497 q2498 q2499 q100 q2500) ⟨rfl, mdX2_writesWord⟩ ⟨Nat.le_of_ble_eq_true rfl, Nat.le_of_ble_eq_true rfl⟩ rfl rfl (Nat.le_of_ble_eq_true rfl) dX5_does_262 hp687.1 hp687.2 (fun v528 σ529 hpA262 => ?_) (fun q530 σ531 hpB262 => ?_)
        · have hp688 := hpA262
          refine x_pc (pc' := 265) rfl ?_
          refine x_vx ?_; exact x_iret X hr rfl dX5_does_265 hp688
        · have hp689 := hpB262
          obtain ⟨hq262, hp690⟩ := hp689
          obtain ⟨hr262, hp691⟩ := hp690
          exact x_out X (kX6 hG) (hout 262) hr262 hq262 hp691
      have hp692 := hp683.2 c196_1
      by_cases c196_2 : (4 : Int32) = (2 : Int32)
      · have hp693 := hp692.1 c196_2
        refine x_up (pc' := 266) (fun _ _ _ _ _ L => lv_tableIn (off := 70) (tgt := 266) hx hb dX5_does_196 (by rw [c196_2]; decide) (by rw [c196_2]; decide) (by rw [c196_2]; rfl) (by decide)) ?_
        refine x_up (pc' := 267) (fun _ _ _ _ _ L => lv_aloadq_n hx hb dX5_does_266 rfl (lv_at L 3 rfl)) ?_
        refine x_up (pc' := 268) (fun _ _ _ _ _ L => lv_aload_n hx hb dX5_does_267 rfl (lv_at L 2 rfl)) ?_
        refine x_gi X (kX5 hG) 1 (by decide) q2137 (fun _ h => h) dX5_does_268 hp693 (fun v532 hp694 => ?_)
        refine x_pc (pc' := 271) rfl ?_
        obtain ⟨b533, rfl, hp695⟩ := hp694
        refine x_callVX (em := emI) (fun r st => .int r :: st) (fun _ _ => rfl) 1 X (kX2 hG) (fun σ' KK KX h => R_X2_pins l hl G hG b533 v532 σ' KK KX h) (lw_V q2509 q2510 q2511 q100 q2512) ⟨rfl, mdX2_pins⟩ ⟨Nat.le_of_ble_eq_true rfl, Nat.le_of_ble_eq_true rfl⟩ rfl rfl (Nat.le_of_ble_eq_true rfl) dX5_does_271 hp695.1 hp695.2 (fun v534 σ535 hpA271 => ?_) (fun q536 σ537 hpB271 => ?_)
        · have hp696 := hpA271
          refine x_pc (pc' := 274) rfl ?_
          refine x_vx ?_; exact x_iret X hr rfl dX5_does_274 hp696
        · have hp697 := hpB271
          obtain ⟨hq271, hp698⟩ := hp697
          obtain ⟨hr271, hp699⟩ := hp698
          exact x_out X (kX6 hG) (hout 271) hr271 hq271 hp699
      have hp700 := hp692.2 c196_2
      by_cases c196_3 : (4 : Int32) = (3 : Int32)
      · have hp701 := hp700.1 c196_3
        refine x_up (pc' := 275) (fun _ _ _ _ _ L => lv_tableIn (off := 79) (tgt := 275) hx hb dX5_does_196 (by rw [c196_3]; decide) (by rw [c196_3]; decide) (by rw [c196_3]; rfl) (by decide)) ?_
        refine x_up (pc' := 276) (fun _ _ _ _ _ L => lv_aloadq_n hx hb dX5_does_275 rfl (lv_at L 3 rfl)) ?_
        refine x_up (pc' := 277) (fun _ _ _ _ _ L => lv_aload_n hx hb dX5_does_276 rfl (lv_at L 2 rfl)) ?_
        refine x_gi X (kX5 hG) 1 (by decide) q2137 (fun _ h => h) dX5_does_277 hp701 (fun v538 hp702 => ?_)
        refine x_pc (pc' := 280) rfl ?_
        obtain ⟨b539, rfl, hp703⟩ := hp702
        refine x_callVX (em := emI) (fun r st => .int r :: st) (fun _ _ => rfl) 1 X (kX2 hG) (fun σ' KK KX h => R_X2_frees l hl G hG b539 v538 σ' KK KX h) (lw_V q2522 q2523 q2524 q100 q2525) ⟨rfl, mdX2_frees⟩ ⟨Nat.le_of_ble_eq_true rfl, Nat.le_of_ble_eq_true rfl⟩ rfl rfl (Nat.le_of_ble_eq_true rfl) dX5_does_280 hp703.1 hp703.2 (fun v540 σ541 hpA280 => ?_) (fun q542 σ543 hpB280 => ?_)
        · have hp704 := hpA280
          refine x_pc (pc' := 283) rfl ?_
          refine x_vx ?_; exact x_iret X hr rfl dX5_does_283 hp704
        · have hp705 := hpB280
          obtain ⟨hq280, hp706⟩ := hp705
          obtain ⟨hr280, hp707⟩ := hp706
          exact x_out X (kX6 hG) (hout 280) hr280 hq280 hp707
      have hp708 := hp700.2 c196_3
      by_cases c196_4 : (4 : Int32) = (4 : Int32)
      · have hp709 := hp708.1 c196_4
        refine x_up (pc' := 284) (fun _ _ _ _ _ L => lv_tableIn (off := 88) (tgt := 284) hx hb dX5_does_196 (by rw [c196_4]; decide) (by rw [c196_4]; decide) (by rw [c196_4]; rfl) (by decide)) ?_
        refine x_up (pc' := 285) (fun _ _ _ _ _ L => lv_aloadq_n hx hb dX5_does_284 rfl (lv_at L 3 rfl)) ?_
        obtain ⟨b544, rfl, hp710⟩ := hp709
        refine x_callVX (em := emI) (fun r st => .int r :: st) (fun _ _ => rfl) 0 X (kX2 hG) (fun σ' KK KX h => R_X2_flushes l hl G hG b544 σ' KK KX h) (lw_V q2526 q2527 q2528 q100 q2529) ⟨rfl, mdX2_flushes⟩ ⟨Nat.le_of_ble_eq_true rfl, Nat.le_of_ble_eq_true rfl⟩ rfl rfl (Nat.le_of_ble_eq_true rfl) dX5_does_285 hp710.1 hp710.2 (fun v545 σ546 hpA285 => ?_) (fun q547 σ548 hpB285 => ?_)
        · have hp711 := hpA285
          refine x_pc (pc' := 288) rfl ?_
          refine x_vx ?_; exact x_iret X hr rfl dX5_does_288 hp711
        · have hp712 := hpB285
          obtain ⟨hq285, hp713⟩ := hp712
          obtain ⟨hr285, hp714⟩ := hp713
          exact x_out X (kX6 hG) (hout 285) hr285 hq285 hp714
      have hp715 := hp708.2 c196_4
      by_cases c196_5 : (4 : Int32) = (5 : Int32)
      · have hp716 := hp715.1 c196_5
        refine x_up (pc' := 289) (fun _ _ _ _ _ L => lv_tableIn (off := 93) (tgt := 289) hx hb dX5_does_196 (by rw [c196_5]; decide) (by rw [c196_5]; decide) (by rw [c196_5]; rfl) (by decide)) ?_
        refine x_up (pc' := 290) (fun _ _ _ _ _ L => lv_aloadq_n hx hb dX5_does_289 rfl (lv_at L 3 rfl)) ?_
        refine x_up (pc' := 291) (fun _ _ _ _ _ L => lv_aload_n hx hb dX5_does_290 rfl (lv_at L 2 rfl)) ?_
        refine x_gi X (kX5 hG) 1 (by decide) q2137 (fun _ h => h) dX5_does_291 hp716 (fun v549 hp717 => ?_)
        refine x_pc (pc' := 294) rfl ?_
        refine x_up (pc' := 295) (fun _ _ _ _ _ L => lv_aload_n hx hb dX5_does_294 rfl (lv_at L 2 rfl)) ?_
        refine x_gi X (kX5 hG) 2 (by decide) q2138 (fun _ h => h) dX5_does_295 hp717 (fun v550 hp718 => ?_)
        refine x_pc (pc' := 298) rfl ?_
        obtain ⟨b551, rfl, hp719⟩ := hp718
        refine x_callVX (em := emI) (fun r st => .int r :: st) (fun _ _ => rfl) 2 X (kX2 hG) (fun σ' KK KX h => R_X2_deviceWrites l hl G hG b551 v549 v550 σ' KK KX h) (lw_V q2535 q2536 q2537 q100 q2538) ⟨rfl, mdX2_deviceWrites⟩ ⟨Nat.le_of_ble_eq_true rfl, Nat.le_of_ble_eq_true rfl⟩ rfl rfl (Nat.le_of_ble_eq_true rfl) dX5_does_298 hp719.1 hp719.2 (fun v552 σ553 hpA298 => ?_) (fun q554 σ555 hpB298 => ?_)
        · have hp720 := hpA298
          refine x_pc (pc' := 301) rfl ?_
          refine x_vx ?_; exact x_iret X hr rfl dX5_does_301 hp720
        · have hp721 := hpB298
          obtain ⟨hq298, hp722⟩ := hp721
          obtain ⟨hr298, hp723⟩ := hp722
          exact x_out X (kX6 hG) (hout 298) hr298 hq298 hp723
      have hp724 := hp715.2 c196_5
      by_cases c196_6 : (4 : Int32) = (6 : Int32)
      · have hp725 := hp724.1 c196_6
        refine x_up (pc' := 302) (fun _ _ _ _ _ L => lv_tableIn (off := 106) (tgt := 302) hx hb dX5_does_196 (by rw [c196_6]; decide) (by rw [c196_6]; decide) (by rw [c196_6]; rfl) (by decide)) ?_
        refine x_up (pc' := 303) (fun _ _ _ _ _ L => lv_aloadq_n hx hb dX5_does_302 rfl (lv_at L 3 rfl)) ?_
        refine x_up (pc' := 304) (fun _ _ _ _ _ L => lv_aload_n hx hb dX5_does_303 rfl (lv_at L 2 rfl)) ?_
        refine x_gi X (kX5 hG) 1 (by decide) q2137 (fun _ h => h) dX5_does_304 hp725 (fun v556 hp726 => ?_)
        refine x_pc (pc' := 307) rfl ?_
        obtain ⟨b557, rfl, hp727⟩ := hp726
        refine x_callVX (em := emI) (fun r st => .int r :: st) (fun _ _ => rfl) 1 X (kX2 hG) (fun σ' KK KX h => R_X2_waits l hl G hG b557 v556 σ' KK KX h) (lw_V q2543 q2544 q2545 q100 q2546) ⟨rfl, mdX2_waits⟩ ⟨Nat.le_of_ble_eq_true rfl, Nat.le_of_ble_eq_true rfl⟩ rfl rfl (Nat.le_of_ble_eq_true rfl) dX5_does_307 hp727.1 hp727.2 (fun v558 σ559 hpA307 => ?_) (fun q560 σ561 hpB307 => ?_)
        · have hp728 := hpA307
          refine x_pc (pc' := 310) rfl ?_
          refine x_vx ?_; exact x_iret X hr rfl dX5_does_310 hp728
        · have hp729 := hpB307
          obtain ⟨hq307, hp730⟩ := hp729
          obtain ⟨hr307, hp731⟩ := hp730
          exact x_out X (kX6 hG) (hout 307) hr307 hq307 hp731
      have hp732 := hp724.2 c196_6
      by_cases c196_7 : (4 : Int32) = (7 : Int32)
      · have hp733 := hp732.1 c196_7
        refine x_up (pc' := 311) (fun _ _ _ _ _ L => lv_tableIn (off := 115) (tgt := 311) hx hb dX5_does_196 (by rw [c196_7]; decide) (by rw [c196_7]; decide) (by rw [c196_7]; rfl) (by decide)) ?_
        refine x_up (pc' := 312) (fun _ _ _ _ _ L => lv_aloadq_n hx hb dX5_does_311 rfl (lv_at L 3 rfl)) ?_
        refine x_up (pc' := 313) (fun _ _ _ _ _ L => lv_aload_n hx hb dX5_does_312 rfl (lv_at L 2 rfl)) ?_
        refine x_gi X (kX5 hG) 1 (by decide) q2137 (fun _ h => h) dX5_does_313 hp733 (fun v562 hp734 => ?_)
        refine x_pc (pc' := 316) rfl ?_
        refine x_up (pc' := 317) (fun _ _ _ _ _ L => lv_aload_n hx hb dX5_does_316 rfl (lv_at L 2 rfl)) ?_
        refine x_gi X (kX5 hG) 2 (by decide) q2138 (fun _ h => h) dX5_does_317 hp734 (fun v563 hp735 => ?_)
        refine x_pc (pc' := 320) rfl ?_
        obtain ⟨b564, rfl, hp736⟩ := hp735
        refine x_callVX (em := emI) (fun r st => .int r :: st) (fun _ _ => rfl) 2 X (kX2 hG) (fun σ' KK KX h => R_X2_shapes l hl G hG b564 v562 v563 σ' KK KX h) (lw_V q2547 q2548 q2549 q100 q2550) ⟨rfl, mdX2_shapes⟩ ⟨Nat.le_of_ble_eq_true rfl, Nat.le_of_ble_eq_true rfl⟩ rfl rfl (Nat.le_of_ble_eq_true rfl) dX5_does_320 hp736.1 hp736.2 (fun v565 σ566 hpA320 => ?_) (fun q567 σ568 hpB320 => ?_)
        · have hp737 := hpA320
          refine x_pc (pc' := 323) rfl ?_
          refine x_vx ?_; exact x_iret X hr rfl dX5_does_323 hp737
        · have hp738 := hpB320
          obtain ⟨hq320, hp739⟩ := hp738
          obtain ⟨hr320, hp740⟩ := hp739
          exact x_out X (kX6 hG) (hout 320) hr320 hq320 hp740
      have hp741 := hp732.2 c196_7
      refine x_up (pc' := 324) (fun _ _ _ _ _ L => lv_tableOut (tgt := 324) hx hb dX5_does_196 (x_tabOut 0 8 (by decide) (by decide) (by decide) (lt_s (lt_s (lt_s (lt_s (lt_s (lt_s (lt_s (lt_s lt_0 c196_0) c196_1) c196_2) c196_3) c196_4) c196_5) c196_6) c196_7)) (by decide)) ?_
      refine x_up (pc' := 325) (fun _ _ _ _ _ L => lv_aloadq_n hx hb dX5_does_324 rfl (lv_at L 3 rfl)) ?_
      refine x_up (pc' := 326) (fun _ _ _ _ _ L => lv_aload_n hx hb dX5_does_325 rfl (lv_at L 2 rfl)) ?_
      refine x_gi X (kX5 hG) 1 (by decide) q2137 (fun _ h => h) dX5_does_326 hp741 (fun v569 hp742 => ?_)
      refine x_pc (pc' := 329) rfl ?_
      obtain ⟨b570, rfl, hp743⟩ := hp742
      refine x_callVX (em := emI) (fun r st => .int r :: st) (fun _ _ => rfl) 1 X (kX2 hG) (fun σ' KK KX h => R_X2_rules l hl G hG b570 v569 σ' KK KX h) (lw_V q2551 q2552 q2553 q100 q2554) ⟨rfl, mdX2_rules⟩ ⟨Nat.le_of_ble_eq_true rfl, Nat.le_of_ble_eq_true rfl⟩ rfl rfl (Nat.le_of_ble_eq_true rfl) dX5_does_329 hp743.1 hp743.2 (fun v571 σ572 hpA329 => ?_) (fun q573 σ574 hpB329 => ?_)
      · have hp744 := hpA329
        refine x_pc (pc' := 332) rfl ?_
        refine x_vx ?_; exact x_iret X hr rfl dX5_does_332 hp744
      · have hp745 := hpB329
        obtain ⟨hq329, hp746⟩ := hp745
        obtain ⟨hr329, hp747⟩ := hp746
        exact x_out X (kX6 hG) (hout 329) hr329 hq329 hp747
  have hp748 := hp599.2 c11_4
  by_cases c11_5 : v3 = (109399969 : Int32)
  · have hp749 := hp748.1 c11_5
    refine x_up (pc' := 183) (fun _ _ _ _ _ L => lv_lookup (off := 172) (tgt := 183) hx hb dX5_does_11 (by decide) (by rw [c11_5]; rfl) (by decide)) ?_
    refine x_up (pc' := 184) (fun _ _ _ _ _ L => lv_aload_n hx hb dX5_does_183 rfl (lv_at L 1 rfl)) ?_
    refine x_ldcS (tx := "shape") (q := G.2 18) X (by simp [x_ss, RX5]) dX5_does_184 ?_
    refine x_pc (pc' := 186) rfl ?_
    refine x_callV (em := emI) (fun r st => .int r :: st) (fun _ _ => rfl) 1 X (kJ14 hG) (fun σ' KK h => R_J14_equals l hl G hG b2 (some (G.2 18)) σ' KK h) (lw_V q2217 q679 q3698 q117 q680) ⟨rfl, mdJ14_equals⟩ ⟨Nat.le_of_ble_eq_true rfl, Nat.le_of_ble_eq_true rfl⟩ rfl rfl (Nat.le_of_ble_eq_true rfl) dX5_does_186 hp749.1 hp749.2 (fun v575 σ576 hp750 => ?_)
    refine x_pc (pc' := 189) rfl ?_
    refine x_if (C := v575 = 0) (pt := 195) (pc' := 192) (fun _ _ _ _ _ => lv_if_eq (tgt := 195) hx hb dX5_does_189 (by decide)) (fun c189 => ?_) (fun c189 => ?_)
    · have hp751 := hp750.1 c189
      refine x_up (pc' := 196) (fun _ _ _ _ _ L => lv_iload_n hx hb dX5_does_195 rfl (lv_at L 0 rfl)) ?_
      by_cases c196_0 : (-1 : Int32) = (0 : Int32)
      · have hp752 := hp751.1 c196_0
        refine x_up (pc' := 244) (fun _ _ _ _ _ L => lv_tableIn (off := 48) (tgt := 244) hx hb dX5_does_196 (by rw [c196_0]; decide) (by rw [c196_0]; decide) (by rw [c196_0]; rfl) (by decide)) ?_
        refine x_up (pc' := 245) (fun _ _ _ _ _ L => lv_aloadq_n hx hb dX5_does_244 rfl (lv_at L 3 rfl)) ?_
        refine x_up (pc' := 246) (fun _ _ _ _ _ L => lv_aload_n hx hb dX5_does_245 rfl (lv_at L 2 rfl)) ?_
        refine x_gi X (kX5 hG) 1 (by decide) q2137 (fun _ h => h) dX5_does_246 hp752 (fun v577 hp753 => ?_)
        refine x_pc (pc' := 249) rfl ?_
        obtain ⟨b578, rfl, hp754⟩ := hp753
        refine x_callVX (em := emI) (fun r st => .int r :: st) (fun _ _ => rfl) 1 X (kX2 hG) (fun σ' KK KX h => R_X2_readsWord l hl G hG b578 v577 σ' KK KX h) (lw_V q2225 q2226 q2227 q100 q2228) ⟨rfl, mdX2_readsWord⟩ ⟨Nat.le_of_ble_eq_true rfl, Nat.le_of_ble_eq_true rfl⟩ rfl rfl (Nat.le_of_ble_eq_true rfl) dX5_does_249 hp754.1 hp754.2 (fun v579 σ580 hpA249 => ?_) (fun q581 σ582 hpB249 => ?_)
        · have hp755 := hpA249
          refine x_pc (pc' := 252) rfl ?_
          refine x_vx ?_; exact x_iret X hr rfl dX5_does_252 hp755
        · have hp756 := hpB249
          obtain ⟨hq249, hp757⟩ := hp756
          obtain ⟨hr249, hp758⟩ := hp757
          exact x_out X (kX6 hG) (hout 249) hr249 hq249 hp758
      have hp759 := hp751.2 c196_0
      by_cases c196_1 : (-1 : Int32) = (1 : Int32)
      · have hp760 := hp759.1 c196_1
        refine x_up (pc' := 253) (fun _ _ _ _ _ L => lv_tableIn (off := 57) (tgt := 253) hx hb dX5_does_196 (by rw [c196_1]; decide) (by rw [c196_1]; decide) (by rw [c196_1]; rfl) (by decide)) ?_
        refine x_up (pc' := 254) (fun _ _ _ _ _ L => lv_aloadq_n hx hb dX5_does_253 rfl (lv_at L 3 rfl)) ?_
        refine x_up (pc' := 255) (fun _ _ _ _ _ L => lv_aload_n hx hb dX5_does_254 rfl (lv_at L 2 rfl)) ?_
        refine x_gi X (kX5 hG) 1 (by decide) q2137 (fun _ h => h) dX5_does_255 hp760 (fun v583 hp761 => ?_)
        refine x_pc (pc' := 258) rfl ?_
        refine x_up (pc' := 259) (fun _ _ _ _ _ L => lv_aload_n hx hb dX5_does_258 rfl (lv_at L 2 rfl)) ?_
        refine x_gi X (kX5 hG) 2 (by decide) q2138 (fun _ h => h) dX5_does_259 hp761 (fun v584 hp762 => ?_)
        refine x_pc (pc' := 262) rfl ?_
        obtain ⟨b585, rfl, hp763⟩ := hp762
        refine x_callVX (em := emI) (fun r st => .int r :: st) (fun _ _ => rfl) 2 X (kX2 hG) (fun σ' KK KX h => R_X2_writesWord l hl G hG b585 v583 v584 σ' KK KX h) (lw_V q2497 q2498 q2499 q100 q2500) ⟨rfl, mdX2_writesWord⟩ ⟨Nat.le_of_ble_eq_true rfl, Nat.le_of_ble_eq_true rfl⟩ rfl rfl (Nat.le_of_ble_eq_true rfl) dX5_does_262 hp763.1 hp763.2 (fun v586 σ587 hpA262 => ?_) (fun q588 σ589 hpB262 => ?_)
        · have hp764 := hpA262
          refine x_pc (pc' := 265) rfl ?_
          refine x_vx ?_; exact x_iret X hr rfl dX5_does_265 hp764
        · have hp765 := hpB262
          obtain ⟨hq262, hp766⟩ := hp765
          obtain ⟨hr262, hp767⟩ := hp766
          exact x_out X (kX6 hG) (hout 262) hr262 hq262 hp767
      have hp768 := hp759.2 c196_1
      by_cases c196_2 : (-1 : Int32) = (2 : Int32)
      · have hp769 := hp768.1 c196_2
        refine x_up (pc' := 266) (fun _ _ _ _ _ L => lv_tableIn (off := 70) (tgt := 266) hx hb dX5_does_196 (by rw [c196_2]; decide) (by rw [c196_2]; decide) (by rw [c196_2]; rfl) (by decide)) ?_
        refine x_up (pc' := 267) (fun _ _ _ _ _ L => lv_aloadq_n hx hb dX5_does_266 rfl (lv_at L 3 rfl)) ?_
        refine x_up (pc' := 268) (fun _ _ _ _ _ L => lv_aload_n hx hb dX5_does_267 rfl (lv_at L 2 rfl)) ?_
        refine x_gi X (kX5 hG) 1 (by decide) q2137 (fun _ h => h) dX5_does_268 hp769 (fun v590 hp770 => ?_)
        refine x_pc (pc' := 271) rfl ?_
        obtain ⟨b591, rfl, hp771⟩ := hp770
        refine x_callVX (em := emI) (fun r st => .int r :: st) (fun _ _ => rfl) 1 X (kX2 hG) (fun σ' KK KX h => R_X2_pins l hl G hG b591 v590 σ' KK KX h) (lw_V q2509 q2510 q2511 q100 q2512) ⟨rfl, mdX2_pins⟩ ⟨Nat.le_of_ble_eq_true rfl, Nat.le_of_ble_eq_true rfl⟩ rfl rfl (Nat.le_of_ble_eq_true rfl) dX5_does_271 hp771.1 hp771.2 (fun v592 σ593 hpA271 => ?_) (fun q594 σ595 hpB271 => ?_)
        · have hp772 := hpA271
          refine x_pc (pc' := 274) rfl ?_
          refine x_vx ?_; exact x_iret X hr rfl dX5_does_274 hp772
        · have hp773 := hpB271
          obtain ⟨hq271, hp774⟩ := hp773
          obtain ⟨hr271, hp775⟩ := hp774
          exact x_out X (kX6 hG) (hout 271) hr271 hq271 hp775
      have hp776 := hp768.2 c196_2
      by_cases c196_3 : (-1 : Int32) = (3 : Int32)
      · have hp777 := hp776.1 c196_3
        refine x_up (pc' := 275) (fun _ _ _ _ _ L => lv_tableIn (off := 79) (tgt := 275) hx hb dX5_does_196 (by rw [c196_3]; decide) (by rw [c196_3]; decide) (by rw [c196_3]; rfl) (by decide)) ?_
        refine x_up (pc' := 276) (fun _ _ _ _ _ L => lv_aloadq_n hx hb dX5_does_275 rfl (lv_at L 3 rfl)) ?_
        refine x_up (pc' := 277) (fun _ _ _ _ _ L => lv_aload_n hx hb dX5_does_276 rfl (lv_at L 2 rfl)) ?_
        refine x_gi X (kX5 hG) 1 (by decide) q2137 (fun _ h => h) dX5_does_277 hp777 (fun v596 hp778 => ?_)
        refine x_pc (pc' := 280) rfl ?_
        obtain ⟨b597, rfl, hp779⟩ := hp778
        refine x_callVX (em := emI) (fun r st => .int r :: st) (fun _ _ => rfl) 1 X (kX2 hG) (fun σ' KK KX h => R_X2_frees l hl G hG b597 v596 σ' KK KX h) (lw_V q2522 q2523 q2524 q100 q2525) ⟨rfl, mdX2_frees⟩ ⟨Nat.le_of_ble_eq_true rfl, Nat.le_of_ble_eq_true rfl⟩ rfl rfl (Nat.le_of_ble_eq_true rfl) dX5_does_280 hp779.1 hp779.2 (fun v598 σ599 hpA280 => ?_) (fun q600 σ601 hpB280 => ?_)
        · have hp780 := hpA280
          refine x_pc (pc' := 283) rfl ?_
          refine x_vx ?_; exact x_iret X hr rfl dX5_does_283 hp780
        · have hp781 := hpB280
          obtain ⟨hq280, hp782⟩ := hp781
          obtain ⟨hr280, hp783⟩ := hp782
          exact x_out X (kX6 hG) (hout 280) hr280 hq280 hp783
      have hp784 := hp776.2 c196_3
      by_cases c196_4 : (-1 : Int32) = (4 : Int32)
      · have hp785 := hp784.1 c196_4
        refine x_up (pc' := 284) (fun _ _ _ _ _ L => lv_tableIn (off := 88) (tgt := 284) hx hb dX5_does_196 (by rw [c196_4]; decide) (by rw [c196_4]; decide) (by rw [c196_4]; rfl) (by decide)) ?_
        refine x_up (pc' := 285) (fun _ _ _ _ _ L => lv_aloadq_n hx hb dX5_does_284 rfl (lv_at L 3 rfl)) ?_
        obtain ⟨b602, rfl, hp786⟩ := hp785
        refine x_callVX (em := emI) (fun r st => .int r :: st) (fun _ _ => rfl) 0 X (kX2 hG) (fun σ' KK KX h => R_X2_flushes l hl G hG b602 σ' KK KX h) (lw_V q2526 q2527 q2528 q100 q2529) ⟨rfl, mdX2_flushes⟩ ⟨Nat.le_of_ble_eq_true rfl, Nat.le_of_ble_eq_true rfl⟩ rfl rfl (Nat.le_of_ble_eq_true rfl) dX5_does_285 hp786.1 hp786.2 (fun v603 σ604 hpA285 => ?_) (fun q605 σ606 hpB285 => ?_)
        · have hp787 := hpA285
          refine x_pc (pc' := 288) rfl ?_
          refine x_vx ?_; exact x_iret X hr rfl dX5_does_288 hp787
        · have hp788 := hpB285
          obtain ⟨hq285, hp789⟩ := hp788
          obtain ⟨hr285, hp790⟩ := hp789
          exact x_out X (kX6 hG) (hout 285) hr285 hq285 hp790
      have hp791 := hp784.2 c196_4
      by_cases c196_5 : (-1 : Int32) = (5 : Int32)
      · have hp792 := hp791.1 c196_5
        refine x_up (pc' := 289) (fun _ _ _ _ _ L => lv_tableIn (off := 93) (tgt := 289) hx hb dX5_does_196 (by rw [c196_5]; decide) (by rw [c196_5]; decide) (by rw [c196_5]; rfl) (by decide)) ?_
        refine x_up (pc' := 290) (fun _ _ _ _ _ L => lv_aloadq_n hx hb dX5_does_289 rfl (lv_at L 3 rfl)) ?_
        refine x_up (pc' := 291) (fun _ _ _ _ _ L => lv_aload_n hx hb dX5_does_290 rfl (lv_at L 2 rfl)) ?_
        refine x_gi X (kX5 hG) 1 (by decide) q2137 (fun _ h => h) dX5_does_291 hp792 (fun v607 hp793 => ?_)
        refine x_pc (pc' := 294) rfl ?_
        refine x_up (pc' := 295) (fun _ _ _ _ _ L => lv_aload_n hx hb dX5_does_294 rfl (lv_at L 2 rfl)) ?_
        refine x_gi X (kX5 hG) 2 (by decide) q2138 (fun _ h => h) dX5_does_295 hp793 (fun v608 hp794 => ?_)
        refine x_pc (pc' := 298) rfl ?_
        obtain ⟨b609, rfl, hp795⟩ := hp794
        refine x_callVX (em := emI) (fun r st => .int r :: st) (fun _ _ => rfl) 2 X (kX2 hG) (fun σ' KK KX h => R_X2_deviceWrites l hl G hG b609 v607 v608 σ' KK KX h) (lw_V q2535 q2536 q2537 q100 q2538) ⟨rfl, mdX2_deviceWrites⟩ ⟨Nat.le_of_ble_eq_true rfl, Nat.le_of_ble_eq_true rfl⟩ rfl rfl (Nat.le_of_ble_eq_true rfl) dX5_does_298 hp795.1 hp795.2 (fun v610 σ611 hpA298 => ?_) (fun q612 σ613 hpB298 => ?_)
        · have hp796 := hpA298
          refine x_pc (pc' := 301) rfl ?_
          refine x_vx ?_; exact x_iret X hr rfl dX5_does_301 hp796
        · have hp797 := hpB298
          obtain ⟨hq298, hp798⟩ := hp797
          obtain ⟨hr298, hp799⟩ := hp798
          exact x_out X (kX6 hG) (hout 298) hr298 hq298 hp799
      have hp800 := hp791.2 c196_5
      by_cases c196_6 : (-1 : Int32) = (6 : Int32)
      · have hp801 := hp800.1 c196_6
        refine x_up (pc' := 302) (fun _ _ _ _ _ L => lv_tableIn (off := 106) (tgt := 302) hx hb dX5_does_196 (by rw [c196_6]; decide) (by rw [c196_6]; decide) (by rw [c196_6]; rfl) (by decide)) ?_
        refine x_up (pc' := 303) (fun _ _ _ _ _ L => lv_aloadq_n hx hb dX5_does_302 rfl (lv_at L 3 rfl)) ?_
        refine x_up (pc' := 304) (fun _ _ _ _ _ L => lv_aload_n hx hb dX5_does_303 rfl (lv_at L 2 rfl)) ?_
        refine x_gi X (kX5 hG) 1 (by decide) q2137 (fun _ h => h) dX5_does_304 hp801 (fun v614 hp802 => ?_)
        refine x_pc (pc' := 307) rfl ?_
        obtain ⟨b615, rfl, hp803⟩ := hp802
        refine x_callVX (em := emI) (fun r st => .int r :: st) (fun _ _ => rfl) 1 X (kX2 hG) (fun σ' KK KX h => R_X2_waits l hl G hG b615 v614 σ' KK KX h) (lw_V q2543 q2544 q2545 q100 q2546) ⟨rfl, mdX2_waits⟩ ⟨Nat.le_of_ble_eq_true rfl, Nat.le_of_ble_eq_true rfl⟩ rfl rfl (Nat.le_of_ble_eq_true rfl) dX5_does_307 hp803.1 hp803.2 (fun v616 σ617 hpA307 => ?_) (fun q618 σ619 hpB307 => ?_)
        · have hp804 := hpA307
          refine x_pc (pc' := 310) rfl ?_
          refine x_vx ?_; exact x_iret X hr rfl dX5_does_310 hp804
        · have hp805 := hpB307
          obtain ⟨hq307, hp806⟩ := hp805
          obtain ⟨hr307, hp807⟩ := hp806
          exact x_out X (kX6 hG) (hout 307) hr307 hq307 hp807
      have hp808 := hp800.2 c196_6
      by_cases c196_7 : (-1 : Int32) = (7 : Int32)
      · have hp809 := hp808.1 c196_7
        refine x_up (pc' := 311) (fun _ _ _ _ _ L => lv_tableIn (off := 115) (tgt := 311) hx hb dX5_does_196 (by rw [c196_7]; decide) (by rw [c196_7]; decide) (by rw [c196_7]; rfl) (by decide)) ?_
        refine x_up (pc' := 312) (fun _ _ _ _ _ L => lv_aloadq_n hx hb dX5_does_311 rfl (lv_at L 3 rfl)) ?_
        refine x_up (pc' := 313) (fun _ _ _ _ _ L => lv_aload_n hx hb dX5_does_312 rfl (lv_at L 2 rfl)) ?_
        refine x_gi X (kX5 hG) 1 (by decide) q2137 (fun _ h => h) dX5_does_313 hp809 (fun v620 hp810 => ?_)
        refine x_pc (pc' := 316) rfl ?_
        refine x_up (pc' := 317) (fun _ _ _ _ _ L => lv_aload_n hx hb dX5_does_316 rfl (lv_at L 2 rfl)) ?_
        refine x_gi X (kX5 hG) 2 (by decide) q2138 (fun _ h => h) dX5_does_317 hp810 (fun v621 hp811 => ?_)
        refine x_pc (pc' := 320) rfl ?_
        obtain ⟨b622, rfl, hp812⟩ := hp811
        refine x_callVX (em := emI) (fun r st => .int r :: st) (fun _ _ => rfl) 2 X (kX2 hG) (fun σ' KK KX h => R_X2_shapes l hl G hG b622 v620 v621 σ' KK KX h) (lw_V q2547 q2548 q2549 q100 q2550) ⟨rfl, mdX2_shapes⟩ ⟨Nat.le_of_ble_eq_true rfl, Nat.le_of_ble_eq_true rfl⟩ rfl rfl (Nat.le_of_ble_eq_true rfl) dX5_does_320 hp812.1 hp812.2 (fun v623 σ624 hpA320 => ?_) (fun q625 σ626 hpB320 => ?_)
        · have hp813 := hpA320
          refine x_pc (pc' := 323) rfl ?_
          refine x_vx ?_; exact x_iret X hr rfl dX5_does_323 hp813
        · have hp814 := hpB320
          obtain ⟨hq320, hp815⟩ := hp814
          obtain ⟨hr320, hp816⟩ := hp815
          exact x_out X (kX6 hG) (hout 320) hr320 hq320 hp816
      have hp817 := hp808.2 c196_7
      refine x_up (pc' := 324) (fun _ _ _ _ _ L => lv_tableOut (tgt := 324) hx hb dX5_does_196 (x_tabOut 0 8 (by decide) (by decide) (by decide) (lt_s (lt_s (lt_s (lt_s (lt_s (lt_s (lt_s (lt_s lt_0 c196_0) c196_1) c196_2) c196_3) c196_4) c196_5) c196_6) c196_7)) (by decide)) ?_
      refine x_up (pc' := 325) (fun _ _ _ _ _ L => lv_aloadq_n hx hb dX5_does_324 rfl (lv_at L 3 rfl)) ?_
      refine x_up (pc' := 326) (fun _ _ _ _ _ L => lv_aload_n hx hb dX5_does_325 rfl (lv_at L 2 rfl)) ?_
      refine x_gi X (kX5 hG) 1 (by decide) q2137 (fun _ h => h) dX5_does_326 hp817 (fun v627 hp818 => ?_)
      refine x_pc (pc' := 329) rfl ?_
      obtain ⟨b628, rfl, hp819⟩ := hp818
      refine x_callVX (em := emI) (fun r st => .int r :: st) (fun _ _ => rfl) 1 X (kX2 hG) (fun σ' KK KX h => R_X2_rules l hl G hG b628 v627 σ' KK KX h) (lw_V q2551 q2552 q2553 q100 q2554) ⟨rfl, mdX2_rules⟩ ⟨Nat.le_of_ble_eq_true rfl, Nat.le_of_ble_eq_true rfl⟩ rfl rfl (Nat.le_of_ble_eq_true rfl) dX5_does_329 hp819.1 hp819.2 (fun v629 σ630 hpA329 => ?_) (fun q631 σ632 hpB329 => ?_)
      · have hp820 := hpA329
        refine x_pc (pc' := 332) rfl ?_
        refine x_vx ?_; exact x_iret X hr rfl dX5_does_332 hp820
      · have hp821 := hpB329
        obtain ⟨hq329, hp822⟩ := hp821
        obtain ⟨hr329, hp823⟩ := hp822
        exact x_out X (kX6 hG) (hout 329) hr329 hq329 hp823
    · have hp824 := hp750.2 c189
      refine x_up (pc' := 194) (fun _ _ _ _ _ L => lv_bipush (v := (7 : Int32)) hx hb dX5_does_192 (by decide)) ?_
      refine x_upL (pc' := 195) (lo' := [(3, .int (7 : Int32)), (2, .ref b2), (0, .ref a0), (1, va_rf x1)]) (fun _ _ _ _ _ L => lv_istore_n hx hb dX5_does_194 rfl L (by decide) rfl) ?_
      refine x_up (pc' := 196) (fun _ _ _ _ _ L => lv_iload_n hx hb dX5_does_195 rfl (lv_at L 0 rfl)) ?_
      by_cases c196_0 : (7 : Int32) = (0 : Int32)
      · have hp825 := hp824.1 c196_0
        refine x_up (pc' := 244) (fun _ _ _ _ _ L => lv_tableIn (off := 48) (tgt := 244) hx hb dX5_does_196 (by rw [c196_0]; decide) (by rw [c196_0]; decide) (by rw [c196_0]; rfl) (by decide)) ?_
        refine x_up (pc' := 245) (fun _ _ _ _ _ L => lv_aloadq_n hx hb dX5_does_244 rfl (lv_at L 3 rfl)) ?_
        refine x_up (pc' := 246) (fun _ _ _ _ _ L => lv_aload_n hx hb dX5_does_245 rfl (lv_at L 2 rfl)) ?_
        refine x_gi X (kX5 hG) 1 (by decide) q2137 (fun _ h => h) dX5_does_246 hp825 (fun v633 hp826 => ?_)
        refine x_pc (pc' := 249) rfl ?_
        obtain ⟨b634, rfl, hp827⟩ := hp826
        refine x_callVX (em := emI) (fun r st => .int r :: st) (fun _ _ => rfl) 1 X (kX2 hG) (fun σ' KK KX h => R_X2_readsWord l hl G hG b634 v633 σ' KK KX h) (lw_V q2225 q2226 q2227 q100 q2228) ⟨rfl, mdX2_readsWord⟩ ⟨Nat.le_of_ble_eq_true rfl, Nat.le_of_ble_eq_true rfl⟩ rfl rfl (Nat.le_of_ble_eq_true rfl) dX5_does_249 hp827.1 hp827.2 (fun v635 σ636 hpA249 => ?_) (fun q637 σ638 hpB249 => ?_)
        · have hp828 := hpA249
          refine x_pc (pc' := 252) rfl ?_
          refine x_vx ?_; exact x_iret X hr rfl dX5_does_252 hp828
        · have hp829 := hpB249
          obtain ⟨hq249, hp830⟩ := hp829
          obtain ⟨hr249, hp831⟩ := hp830
          exact x_out X (kX6 hG) (hout 249) hr249 hq249 hp831
      have hp832 := hp824.2 c196_0
      by_cases c196_1 : (7 : Int32) = (1 : Int32)
      · have hp833 := hp832.1 c196_1
        refine x_up (pc' := 253) (fun _ _ _ _ _ L => lv_tableIn (off := 57) (tgt := 253) hx hb dX5_does_196 (by rw [c196_1]; decide) (by rw [c196_1]; decide) (by rw [c196_1]; rfl) (by decide)) ?_
        refine x_up (pc' := 254) (fun _ _ _ _ _ L => lv_aloadq_n hx hb dX5_does_253 rfl (lv_at L 3 rfl)) ?_
        refine x_up (pc' := 255) (fun _ _ _ _ _ L => lv_aload_n hx hb dX5_does_254 rfl (lv_at L 2 rfl)) ?_
        refine x_gi X (kX5 hG) 1 (by decide) q2137 (fun _ h => h) dX5_does_255 hp833 (fun v639 hp834 => ?_)
        refine x_pc (pc' := 258) rfl ?_
        refine x_up (pc' := 259) (fun _ _ _ _ _ L => lv_aload_n hx hb dX5_does_258 rfl (lv_at L 2 rfl)) ?_
        refine x_gi X (kX5 hG) 2 (by decide) q2138 (fun _ h => h) dX5_does_259 hp834 (fun v640 hp835 => ?_)
        refine x_pc (pc' := 262) rfl ?_
        obtain ⟨b641, rfl, hp836⟩ := hp835
        refine x_callVX (em := emI) (fun r st => .int r :: st) (fun _ _ => rfl) 2 X (kX2 hG) (fun σ' KK KX h => R_X2_writesWord l hl G hG b641 v639 v640 σ' KK KX h) (lw_V q2497 q2498 q2499 q100 q2500) ⟨rfl, mdX2_writesWord⟩ ⟨Nat.le_of_ble_eq_true rfl, Nat.le_of_ble_eq_true rfl⟩ rfl rfl (Nat.le_of_ble_eq_true rfl) dX5_does_262 hp836.1 hp836.2 (fun v642 σ643 hpA262 => ?_) (fun q644 σ645 hpB262 => ?_)
        · have hp837 := hpA262
          refine x_pc (pc' := 265) rfl ?_
          refine x_vx ?_; exact x_iret X hr rfl dX5_does_265 hp837
        · have hp838 := hpB262
          obtain ⟨hq262, hp839⟩ := hp838
          obtain ⟨hr262, hp840⟩ := hp839
          exact x_out X (kX6 hG) (hout 262) hr262 hq262 hp840
      have hp841 := hp832.2 c196_1
      by_cases c196_2 : (7 : Int32) = (2 : Int32)
      · have hp842 := hp841.1 c196_2
        refine x_up (pc' := 266) (fun _ _ _ _ _ L => lv_tableIn (off := 70) (tgt := 266) hx hb dX5_does_196 (by rw [c196_2]; decide) (by rw [c196_2]; decide) (by rw [c196_2]; rfl) (by decide)) ?_
        refine x_up (pc' := 267) (fun _ _ _ _ _ L => lv_aloadq_n hx hb dX5_does_266 rfl (lv_at L 3 rfl)) ?_
        refine x_up (pc' := 268) (fun _ _ _ _ _ L => lv_aload_n hx hb dX5_does_267 rfl (lv_at L 2 rfl)) ?_
        refine x_gi X (kX5 hG) 1 (by decide) q2137 (fun _ h => h) dX5_does_268 hp842 (fun v646 hp843 => ?_)
        refine x_pc (pc' := 271) rfl ?_
        obtain ⟨b647, rfl, hp844⟩ := hp843
        refine x_callVX (em := emI) (fun r st => .int r :: st) (fun _ _ => rfl) 1 X (kX2 hG) (fun σ' KK KX h => R_X2_pins l hl G hG b647 v646 σ' KK KX h) (lw_V q2509 q2510 q2511 q100 q2512) ⟨rfl, mdX2_pins⟩ ⟨Nat.le_of_ble_eq_true rfl, Nat.le_of_ble_eq_true rfl⟩ rfl rfl (Nat.le_of_ble_eq_true rfl) dX5_does_271 hp844.1 hp844.2 (fun v648 σ649 hpA271 => ?_) (fun q650 σ651 hpB271 => ?_)
        · have hp845 := hpA271
          refine x_pc (pc' := 274) rfl ?_
          refine x_vx ?_; exact x_iret X hr rfl dX5_does_274 hp845
        · have hp846 := hpB271
          obtain ⟨hq271, hp847⟩ := hp846
          obtain ⟨hr271, hp848⟩ := hp847
          exact x_out X (kX6 hG) (hout 271) hr271 hq271 hp848
      have hp849 := hp841.2 c196_2
      by_cases c196_3 : (7 : Int32) = (3 : Int32)
      · have hp850 := hp849.1 c196_3
        refine x_up (pc' := 275) (fun _ _ _ _ _ L => lv_tableIn (off := 79) (tgt := 275) hx hb dX5_does_196 (by rw [c196_3]; decide) (by rw [c196_3]; decide) (by rw [c196_3]; rfl) (by decide)) ?_
        refine x_up (pc' := 276) (fun _ _ _ _ _ L => lv_aloadq_n hx hb dX5_does_275 rfl (lv_at L 3 rfl)) ?_
        refine x_up (pc' := 277) (fun _ _ _ _ _ L => lv_aload_n hx hb dX5_does_276 rfl (lv_at L 2 rfl)) ?_
        refine x_gi X (kX5 hG) 1 (by decide) q2137 (fun _ h => h) dX5_does_277 hp850 (fun v652 hp851 => ?_)
        refine x_pc (pc' := 280) rfl ?_
        obtain ⟨b653, rfl, hp852⟩ := hp851
        refine x_callVX (em := emI) (fun r st => .int r :: st) (fun _ _ => rfl) 1 X (kX2 hG) (fun σ' KK KX h => R_X2_frees l hl G hG b653 v652 σ' KK KX h) (lw_V q2522 q2523 q2524 q100 q2525) ⟨rfl, mdX2_frees⟩ ⟨Nat.le_of_ble_eq_true rfl, Nat.le_of_ble_eq_true rfl⟩ rfl rfl (Nat.le_of_ble_eq_true rfl) dX5_does_280 hp852.1 hp852.2 (fun v654 σ655 hpA280 => ?_) (fun q656 σ657 hpB280 => ?_)
        · have hp853 := hpA280
          refine x_pc (pc' := 283) rfl ?_
          refine x_vx ?_; exact x_iret X hr rfl dX5_does_283 hp853
        · have hp854 := hpB280
          obtain ⟨hq280, hp855⟩ := hp854
          obtain ⟨hr280, hp856⟩ := hp855
          exact x_out X (kX6 hG) (hout 280) hr280 hq280 hp856
      have hp857 := hp849.2 c196_3
      by_cases c196_4 : (7 : Int32) = (4 : Int32)
      · have hp858 := hp857.1 c196_4
        refine x_up (pc' := 284) (fun _ _ _ _ _ L => lv_tableIn (off := 88) (tgt := 284) hx hb dX5_does_196 (by rw [c196_4]; decide) (by rw [c196_4]; decide) (by rw [c196_4]; rfl) (by decide)) ?_
        refine x_up (pc' := 285) (fun _ _ _ _ _ L => lv_aloadq_n hx hb dX5_does_284 rfl (lv_at L 3 rfl)) ?_
        obtain ⟨b658, rfl, hp859⟩ := hp858
        refine x_callVX (em := emI) (fun r st => .int r :: st) (fun _ _ => rfl) 0 X (kX2 hG) (fun σ' KK KX h => R_X2_flushes l hl G hG b658 σ' KK KX h) (lw_V q2526 q2527 q2528 q100 q2529) ⟨rfl, mdX2_flushes⟩ ⟨Nat.le_of_ble_eq_true rfl, Nat.le_of_ble_eq_true rfl⟩ rfl rfl (Nat.le_of_ble_eq_true rfl) dX5_does_285 hp859.1 hp859.2 (fun v659 σ660 hpA285 => ?_) (fun q661 σ662 hpB285 => ?_)
        · have hp860 := hpA285
          refine x_pc (pc' := 288) rfl ?_
          refine x_vx ?_; exact x_iret X hr rfl dX5_does_288 hp860
        · have hp861 := hpB285
          obtain ⟨hq285, hp862⟩ := hp861
          obtain ⟨hr285, hp863⟩ := hp862
          exact x_out X (kX6 hG) (hout 285) hr285 hq285 hp863
      have hp864 := hp857.2 c196_4
      by_cases c196_5 : (7 : Int32) = (5 : Int32)
      · have hp865 := hp864.1 c196_5
        refine x_up (pc' := 289) (fun _ _ _ _ _ L => lv_tableIn (off := 93) (tgt := 289) hx hb dX5_does_196 (by rw [c196_5]; decide) (by rw [c196_5]; decide) (by rw [c196_5]; rfl) (by decide)) ?_
        refine x_up (pc' := 290) (fun _ _ _ _ _ L => lv_aloadq_n hx hb dX5_does_289 rfl (lv_at L 3 rfl)) ?_
        refine x_up (pc' := 291) (fun _ _ _ _ _ L => lv_aload_n hx hb dX5_does_290 rfl (lv_at L 2 rfl)) ?_
        refine x_gi X (kX5 hG) 1 (by decide) q2137 (fun _ h => h) dX5_does_291 hp865 (fun v663 hp866 => ?_)
        refine x_pc (pc' := 294) rfl ?_
        refine x_up (pc' := 295) (fun _ _ _ _ _ L => lv_aload_n hx hb dX5_does_294 rfl (lv_at L 2 rfl)) ?_
        refine x_gi X (kX5 hG) 2 (by decide) q2138 (fun _ h => h) dX5_does_295 hp866 (fun v664 hp867 => ?_)
        refine x_pc (pc' := 298) rfl ?_
        obtain ⟨b665, rfl, hp868⟩ := hp867
        refine x_callVX (em := emI) (fun r st => .int r :: st) (fun _ _ => rfl) 2 X (kX2 hG) (fun σ' KK KX h => R_X2_deviceWrites l hl G hG b665 v663 v664 σ' KK KX h) (lw_V q2535 q2536 q2537 q100 q2538) ⟨rfl, mdX2_deviceWrites⟩ ⟨Nat.le_of_ble_eq_true rfl, Nat.le_of_ble_eq_true rfl⟩ rfl rfl (Nat.le_of_ble_eq_true rfl) dX5_does_298 hp868.1 hp868.2 (fun v666 σ667 hpA298 => ?_) (fun q668 σ669 hpB298 => ?_)
        · have hp869 := hpA298
          refine x_pc (pc' := 301) rfl ?_
          refine x_vx ?_; exact x_iret X hr rfl dX5_does_301 hp869
        · have hp870 := hpB298
          obtain ⟨hq298, hp871⟩ := hp870
          obtain ⟨hr298, hp872⟩ := hp871
          exact x_out X (kX6 hG) (hout 298) hr298 hq298 hp872
      have hp873 := hp864.2 c196_5
      by_cases c196_6 : (7 : Int32) = (6 : Int32)
      · have hp874 := hp873.1 c196_6
        refine x_up (pc' := 302) (fun _ _ _ _ _ L => lv_tableIn (off := 106) (tgt := 302) hx hb dX5_does_196 (by rw [c196_6]; decide) (by rw [c196_6]; decide) (by rw [c196_6]; rfl) (by decide)) ?_
        refine x_up (pc' := 303) (fun _ _ _ _ _ L => lv_aloadq_n hx hb dX5_does_302 rfl (lv_at L 3 rfl)) ?_
        refine x_up (pc' := 304) (fun _ _ _ _ _ L => lv_aload_n hx hb dX5_does_303 rfl (lv_at L 2 rfl)) ?_
        refine x_gi X (kX5 hG) 1 (by decide) q2137 (fun _ h => h) dX5_does_304 hp874 (fun v670 hp875 => ?_)
        refine x_pc (pc' := 307) rfl ?_
        obtain ⟨b671, rfl, hp876⟩ := hp875
        refine x_callVX (em := emI) (fun r st => .int r :: st) (fun _ _ => rfl) 1 X (kX2 hG) (fun σ' KK KX h => R_X2_waits l hl G hG b671 v670 σ' KK KX h) (lw_V q2543 q2544 q2545 q100 q2546) ⟨rfl, mdX2_waits⟩ ⟨Nat.le_of_ble_eq_true rfl, Nat.le_of_ble_eq_true rfl⟩ rfl rfl (Nat.le_of_ble_eq_true rfl) dX5_does_307 hp876.1 hp876.2 (fun v672 σ673 hpA307 => ?_) (fun q674 σ675 hpB307 => ?_)
        · have hp877 := hpA307
          refine x_pc (pc' := 310) rfl ?_
          refine x_vx ?_; exact x_iret X hr rfl dX5_does_310 hp877
        · have hp878 := hpB307
          obtain ⟨hq307, hp879⟩ := hp878
          obtain ⟨hr307, hp880⟩ := hp879
          exact x_out X (kX6 hG) (hout 307) hr307 hq307 hp880
      have hp881 := hp873.2 c196_6
      by_cases c196_7 : (7 : Int32) = (7 : Int32)
      · have hp882 := hp881.1 c196_7
        refine x_up (pc' := 311) (fun _ _ _ _ _ L => lv_tableIn (off := 115) (tgt := 311) hx hb dX5_does_196 (by rw [c196_7]; decide) (by rw [c196_7]; decide) (by rw [c196_7]; rfl) (by decide)) ?_
        refine x_up (pc' := 312) (fun _ _ _ _ _ L => lv_aloadq_n hx hb dX5_does_311 rfl (lv_at L 3 rfl)) ?_
        refine x_up (pc' := 313) (fun _ _ _ _ _ L => lv_aload_n hx hb dX5_does_312 rfl (lv_at L 2 rfl)) ?_
        refine x_gi X (kX5 hG) 1 (by decide) q2137 (fun _ h => h) dX5_does_313 hp882 (fun v676 hp883 => ?_)
        refine x_pc (pc' := 316) rfl ?_
        refine x_up (pc' := 317) (fun _ _ _ _ _ L => lv_aload_n hx hb dX5_does_316 rfl (lv_at L 2 rfl)) ?_
        refine x_gi X (kX5 hG) 2 (by decide) q2138 (fun _ h => h) dX5_does_317 hp883 (fun v677 hp884 => ?_)
        refine x_pc (pc' := 320) rfl ?_
        obtain ⟨b678, rfl, hp885⟩ := hp884
        refine x_callVX (em := emI) (fun r st => .int r :: st) (fun _ _ => rfl) 2 X (kX2 hG) (fun σ' KK KX h => R_X2_shapes l hl G hG b678 v676 v677 σ' KK KX h) (lw_V q2547 q2548 q2549 q100 q2550) ⟨rfl, mdX2_shapes⟩ ⟨Nat.le_of_ble_eq_true rfl, Nat.le_of_ble_eq_true rfl⟩ rfl rfl (Nat.le_of_ble_eq_true rfl) dX5_does_320 hp885.1 hp885.2 (fun v679 σ680 hpA320 => ?_) (fun q681 σ682 hpB320 => ?_)
        · have hp886 := hpA320
          refine x_pc (pc' := 323) rfl ?_
          refine x_vx ?_; exact x_iret X hr rfl dX5_does_323 hp886
        · have hp887 := hpB320
          obtain ⟨hq320, hp888⟩ := hp887
          obtain ⟨hr320, hp889⟩ := hp888
          exact x_out X (kX6 hG) (hout 320) hr320 hq320 hp889
      have hp890 := hp881.2 c196_7
      refine x_up (pc' := 324) (fun _ _ _ _ _ L => lv_tableOut (tgt := 324) hx hb dX5_does_196 (x_tabOut 0 8 (by decide) (by decide) (by decide) (lt_s (lt_s (lt_s (lt_s (lt_s (lt_s (lt_s (lt_s lt_0 c196_0) c196_1) c196_2) c196_3) c196_4) c196_5) c196_6) c196_7)) (by decide)) ?_
      refine x_up (pc' := 325) (fun _ _ _ _ _ L => lv_aloadq_n hx hb dX5_does_324 rfl (lv_at L 3 rfl)) ?_
      refine x_up (pc' := 326) (fun _ _ _ _ _ L => lv_aload_n hx hb dX5_does_325 rfl (lv_at L 2 rfl)) ?_
      refine x_gi X (kX5 hG) 1 (by decide) q2137 (fun _ h => h) dX5_does_326 hp890 (fun v683 hp891 => ?_)
      refine x_pc (pc' := 329) rfl ?_
      obtain ⟨b684, rfl, hp892⟩ := hp891
      refine x_callVX (em := emI) (fun r st => .int r :: st) (fun _ _ => rfl) 1 X (kX2 hG) (fun σ' KK KX h => R_X2_rules l hl G hG b684 v683 σ' KK KX h) (lw_V q2551 q2552 q2553 q100 q2554) ⟨rfl, mdX2_rules⟩ ⟨Nat.le_of_ble_eq_true rfl, Nat.le_of_ble_eq_true rfl⟩ rfl rfl (Nat.le_of_ble_eq_true rfl) dX5_does_329 hp892.1 hp892.2 (fun v685 σ686 hpA329 => ?_) (fun q687 σ688 hpB329 => ?_)
      · have hp893 := hpA329
        refine x_pc (pc' := 332) rfl ?_
        refine x_vx ?_; exact x_iret X hr rfl dX5_does_332 hp893
      · have hp894 := hpB329
        obtain ⟨hq329, hp895⟩ := hp894
        obtain ⟨hr329, hp896⟩ := hp895
        exact x_out X (kX6 hG) (hout 329) hr329 hq329 hp896
  have hp897 := hp748.2 c11_5
  by_cases c11_6 : v3 = (110355062 : Int32)
  · have hp898 := hp897.1 c11_6
    refine x_up (pc' := 168) (fun _ _ _ _ _ L => lv_lookup (off := 157) (tgt := 168) hx hb dX5_does_11 (by decide) (by rw [c11_6]; rfl) (by decide)) ?_
    refine x_up (pc' := 169) (fun _ _ _ _ _ L => lv_aload_n hx hb dX5_does_168 rfl (lv_at L 1 rfl)) ?_
    refine x_ldcS (tx := "ticks") (q := G.2 17) X (by simp [x_ss, RX5]) dX5_does_169 ?_
    refine x_pc (pc' := 171) rfl ?_
    refine x_callV (em := emI) (fun r st => .int r :: st) (fun _ _ => rfl) 1 X (kJ14 hG) (fun σ' KK h => R_J14_equals l hl G hG b2 (some (G.2 17)) σ' KK h) (lw_V q2217 q679 q3698 q117 q680) ⟨rfl, mdJ14_equals⟩ ⟨Nat.le_of_ble_eq_true rfl, Nat.le_of_ble_eq_true rfl⟩ rfl rfl (Nat.le_of_ble_eq_true rfl) dX5_does_171 hp898.1 hp898.2 (fun v689 σ690 hp899 => ?_)
    refine x_pc (pc' := 174) rfl ?_
    refine x_if (C := v689 = 0) (pt := 195) (pc' := 177) (fun _ _ _ _ _ => lv_if_eq (tgt := 195) hx hb dX5_does_174 (by decide)) (fun c174 => ?_) (fun c174 => ?_)
    · have hp900 := hp899.1 c174
      refine x_up (pc' := 196) (fun _ _ _ _ _ L => lv_iload_n hx hb dX5_does_195 rfl (lv_at L 0 rfl)) ?_
      by_cases c196_0 : (-1 : Int32) = (0 : Int32)
      · have hp901 := hp900.1 c196_0
        refine x_up (pc' := 244) (fun _ _ _ _ _ L => lv_tableIn (off := 48) (tgt := 244) hx hb dX5_does_196 (by rw [c196_0]; decide) (by rw [c196_0]; decide) (by rw [c196_0]; rfl) (by decide)) ?_
        refine x_up (pc' := 245) (fun _ _ _ _ _ L => lv_aloadq_n hx hb dX5_does_244 rfl (lv_at L 3 rfl)) ?_
        refine x_up (pc' := 246) (fun _ _ _ _ _ L => lv_aload_n hx hb dX5_does_245 rfl (lv_at L 2 rfl)) ?_
        refine x_gi X (kX5 hG) 1 (by decide) q2137 (fun _ h => h) dX5_does_246 hp901 (fun v691 hp902 => ?_)
        refine x_pc (pc' := 249) rfl ?_
        obtain ⟨b692, rfl, hp903⟩ := hp902
        refine x_callVX (em := emI) (fun r st => .int r :: st) (fun _ _ => rfl) 1 X (kX2 hG) (fun σ' KK KX h => R_X2_readsWord l hl G hG b692 v691 σ' KK KX h) (lw_V q2225 q2226 q2227 q100 q2228) ⟨rfl, mdX2_readsWord⟩ ⟨Nat.le_of_ble_eq_true rfl, Nat.le_of_ble_eq_true rfl⟩ rfl rfl (Nat.le_of_ble_eq_true rfl) dX5_does_249 hp903.1 hp903.2 (fun v693 σ694 hpA249 => ?_) (fun q695 σ696 hpB249 => ?_)
        · have hp904 := hpA249
          refine x_pc (pc' := 252) rfl ?_
          refine x_vx ?_; exact x_iret X hr rfl dX5_does_252 hp904
        · have hp905 := hpB249
          obtain ⟨hq249, hp906⟩ := hp905
          obtain ⟨hr249, hp907⟩ := hp906
          exact x_out X (kX6 hG) (hout 249) hr249 hq249 hp907
      have hp908 := hp900.2 c196_0
      by_cases c196_1 : (-1 : Int32) = (1 : Int32)
      · have hp909 := hp908.1 c196_1
        refine x_up (pc' := 253) (fun _ _ _ _ _ L => lv_tableIn (off := 57) (tgt := 253) hx hb dX5_does_196 (by rw [c196_1]; decide) (by rw [c196_1]; decide) (by rw [c196_1]; rfl) (by decide)) ?_
        refine x_up (pc' := 254) (fun _ _ _ _ _ L => lv_aloadq_n hx hb dX5_does_253 rfl (lv_at L 3 rfl)) ?_
        refine x_up (pc' := 255) (fun _ _ _ _ _ L => lv_aload_n hx hb dX5_does_254 rfl (lv_at L 2 rfl)) ?_
        refine x_gi X (kX5 hG) 1 (by decide) q2137 (fun _ h => h) dX5_does_255 hp909 (fun v697 hp910 => ?_)
        refine x_pc (pc' := 258) rfl ?_
        refine x_up (pc' := 259) (fun _ _ _ _ _ L => lv_aload_n hx hb dX5_does_258 rfl (lv_at L 2 rfl)) ?_
        refine x_gi X (kX5 hG) 2 (by decide) q2138 (fun _ h => h) dX5_does_259 hp910 (fun v698 hp911 => ?_)
        refine x_pc (pc' := 262) rfl ?_
        obtain ⟨b699, rfl, hp912⟩ := hp911
        refine x_callVX (em := emI) (fun r st => .int r :: st) (fun _ _ => rfl) 2 X (kX2 hG) (fun σ' KK KX h => R_X2_writesWord l hl G hG b699 v697 v698 σ' KK KX h) (lw_V q2497 q2498 q2499 q100 q2500) ⟨rfl, mdX2_writesWord⟩ ⟨Nat.le_of_ble_eq_true rfl, Nat.le_of_ble_eq_true rfl⟩ rfl rfl (Nat.le_of_ble_eq_true rfl) dX5_does_262 hp912.1 hp912.2 (fun v700 σ701 hpA262 => ?_) (fun q702 σ703 hpB262 => ?_)
        · have hp913 := hpA262
          refine x_pc (pc' := 265) rfl ?_
          refine x_vx ?_; exact x_iret X hr rfl dX5_does_265 hp913
        · have hp914 := hpB262
          obtain ⟨hq262, hp915⟩ := hp914
          obtain ⟨hr262, hp916⟩ := hp915
          exact x_out X (kX6 hG) (hout 262) hr262 hq262 hp916
      have hp917 := hp908.2 c196_1
      by_cases c196_2 : (-1 : Int32) = (2 : Int32)
      · have hp918 := hp917.1 c196_2
        refine x_up (pc' := 266) (fun _ _ _ _ _ L => lv_tableIn (off := 70) (tgt := 266) hx hb dX5_does_196 (by rw [c196_2]; decide) (by rw [c196_2]; decide) (by rw [c196_2]; rfl) (by decide)) ?_
        refine x_up (pc' := 267) (fun _ _ _ _ _ L => lv_aloadq_n hx hb dX5_does_266 rfl (lv_at L 3 rfl)) ?_
        refine x_up (pc' := 268) (fun _ _ _ _ _ L => lv_aload_n hx hb dX5_does_267 rfl (lv_at L 2 rfl)) ?_
        refine x_gi X (kX5 hG) 1 (by decide) q2137 (fun _ h => h) dX5_does_268 hp918 (fun v704 hp919 => ?_)
        refine x_pc (pc' := 271) rfl ?_
        obtain ⟨b705, rfl, hp920⟩ := hp919
        refine x_callVX (em := emI) (fun r st => .int r :: st) (fun _ _ => rfl) 1 X (kX2 hG) (fun σ' KK KX h => R_X2_pins l hl G hG b705 v704 σ' KK KX h) (lw_V q2509 q2510 q2511 q100 q2512) ⟨rfl, mdX2_pins⟩ ⟨Nat.le_of_ble_eq_true rfl, Nat.le_of_ble_eq_true rfl⟩ rfl rfl (Nat.le_of_ble_eq_true rfl) dX5_does_271 hp920.1 hp920.2 (fun v706 σ707 hpA271 => ?_) (fun q708 σ709 hpB271 => ?_)
        · have hp921 := hpA271
          refine x_pc (pc' := 274) rfl ?_
          refine x_vx ?_; exact x_iret X hr rfl dX5_does_274 hp921
        · have hp922 := hpB271
          obtain ⟨hq271, hp923⟩ := hp922
          obtain ⟨hr271, hp924⟩ := hp923
          exact x_out X (kX6 hG) (hout 271) hr271 hq271 hp924
      have hp925 := hp917.2 c196_2
      by_cases c196_3 : (-1 : Int32) = (3 : Int32)
      · have hp926 := hp925.1 c196_3
        refine x_up (pc' := 275) (fun _ _ _ _ _ L => lv_tableIn (off := 79) (tgt := 275) hx hb dX5_does_196 (by rw [c196_3]; decide) (by rw [c196_3]; decide) (by rw [c196_3]; rfl) (by decide)) ?_
        refine x_up (pc' := 276) (fun _ _ _ _ _ L => lv_aloadq_n hx hb dX5_does_275 rfl (lv_at L 3 rfl)) ?_
        refine x_up (pc' := 277) (fun _ _ _ _ _ L => lv_aload_n hx hb dX5_does_276 rfl (lv_at L 2 rfl)) ?_
        refine x_gi X (kX5 hG) 1 (by decide) q2137 (fun _ h => h) dX5_does_277 hp926 (fun v710 hp927 => ?_)
        refine x_pc (pc' := 280) rfl ?_
        obtain ⟨b711, rfl, hp928⟩ := hp927
        refine x_callVX (em := emI) (fun r st => .int r :: st) (fun _ _ => rfl) 1 X (kX2 hG) (fun σ' KK KX h => R_X2_frees l hl G hG b711 v710 σ' KK KX h) (lw_V q2522 q2523 q2524 q100 q2525) ⟨rfl, mdX2_frees⟩ ⟨Nat.le_of_ble_eq_true rfl, Nat.le_of_ble_eq_true rfl⟩ rfl rfl (Nat.le_of_ble_eq_true rfl) dX5_does_280 hp928.1 hp928.2 (fun v712 σ713 hpA280 => ?_) (fun q714 σ715 hpB280 => ?_)
        · have hp929 := hpA280
          refine x_pc (pc' := 283) rfl ?_
          refine x_vx ?_; exact x_iret X hr rfl dX5_does_283 hp929
        · have hp930 := hpB280
          obtain ⟨hq280, hp931⟩ := hp930
          obtain ⟨hr280, hp932⟩ := hp931
          exact x_out X (kX6 hG) (hout 280) hr280 hq280 hp932
      have hp933 := hp925.2 c196_3
      by_cases c196_4 : (-1 : Int32) = (4 : Int32)
      · have hp934 := hp933.1 c196_4
        refine x_up (pc' := 284) (fun _ _ _ _ _ L => lv_tableIn (off := 88) (tgt := 284) hx hb dX5_does_196 (by rw [c196_4]; decide) (by rw [c196_4]; decide) (by rw [c196_4]; rfl) (by decide)) ?_
        refine x_up (pc' := 285) (fun _ _ _ _ _ L => lv_aloadq_n hx hb dX5_does_284 rfl (lv_at L 3 rfl)) ?_
        obtain ⟨b716, rfl, hp935⟩ := hp934
        refine x_callVX (em := emI) (fun r st => .int r :: st) (fun _ _ => rfl) 0 X (kX2 hG) (fun σ' KK KX h => R_X2_flushes l hl G hG b716 σ' KK KX h) (lw_V q2526 q2527 q2528 q100 q2529) ⟨rfl, mdX2_flushes⟩ ⟨Nat.le_of_ble_eq_true rfl, Nat.le_of_ble_eq_true rfl⟩ rfl rfl (Nat.le_of_ble_eq_true rfl) dX5_does_285 hp935.1 hp935.2 (fun v717 σ718 hpA285 => ?_) (fun q719 σ720 hpB285 => ?_)
        · have hp936 := hpA285
          refine x_pc (pc' := 288) rfl ?_
          refine x_vx ?_; exact x_iret X hr rfl dX5_does_288 hp936
        · have hp937 := hpB285
          obtain ⟨hq285, hp938⟩ := hp937
          obtain ⟨hr285, hp939⟩ := hp938
          exact x_out X (kX6 hG) (hout 285) hr285 hq285 hp939
      have hp940 := hp933.2 c196_4
      by_cases c196_5 : (-1 : Int32) = (5 : Int32)
      · have hp941 := hp940.1 c196_5
        refine x_up (pc' := 289) (fun _ _ _ _ _ L => lv_tableIn (off := 93) (tgt := 289) hx hb dX5_does_196 (by rw [c196_5]; decide) (by rw [c196_5]; decide) (by rw [c196_5]; rfl) (by decide)) ?_
        refine x_up (pc' := 290) (fun _ _ _ _ _ L => lv_aloadq_n hx hb dX5_does_289 rfl (lv_at L 3 rfl)) ?_
        refine x_up (pc' := 291) (fun _ _ _ _ _ L => lv_aload_n hx hb dX5_does_290 rfl (lv_at L 2 rfl)) ?_
        refine x_gi X (kX5 hG) 1 (by decide) q2137 (fun _ h => h) dX5_does_291 hp941 (fun v721 hp942 => ?_)
        refine x_pc (pc' := 294) rfl ?_
        refine x_up (pc' := 295) (fun _ _ _ _ _ L => lv_aload_n hx hb dX5_does_294 rfl (lv_at L 2 rfl)) ?_
        refine x_gi X (kX5 hG) 2 (by decide) q2138 (fun _ h => h) dX5_does_295 hp942 (fun v722 hp943 => ?_)
        refine x_pc (pc' := 298) rfl ?_
        obtain ⟨b723, rfl, hp944⟩ := hp943
        refine x_callVX (em := emI) (fun r st => .int r :: st) (fun _ _ => rfl) 2 X (kX2 hG) (fun σ' KK KX h => R_X2_deviceWrites l hl G hG b723 v721 v722 σ' KK KX h) (lw_V q2535 q2536 q2537 q100 q2538) ⟨rfl, mdX2_deviceWrites⟩ ⟨Nat.le_of_ble_eq_true rfl, Nat.le_of_ble_eq_true rfl⟩ rfl rfl (Nat.le_of_ble_eq_true rfl) dX5_does_298 hp944.1 hp944.2 (fun v724 σ725 hpA298 => ?_) (fun q726 σ727 hpB298 => ?_)
        · have hp945 := hpA298
          refine x_pc (pc' := 301) rfl ?_
          refine x_vx ?_; exact x_iret X hr rfl dX5_does_301 hp945
        · have hp946 := hpB298
          obtain ⟨hq298, hp947⟩ := hp946
          obtain ⟨hr298, hp948⟩ := hp947
          exact x_out X (kX6 hG) (hout 298) hr298 hq298 hp948
      have hp949 := hp940.2 c196_5
      by_cases c196_6 : (-1 : Int32) = (6 : Int32)
      · have hp950 := hp949.1 c196_6
        refine x_up (pc' := 302) (fun _ _ _ _ _ L => lv_tableIn (off := 106) (tgt := 302) hx hb dX5_does_196 (by rw [c196_6]; decide) (by rw [c196_6]; decide) (by rw [c196_6]; rfl) (by decide)) ?_
        refine x_up (pc' := 303) (fun _ _ _ _ _ L => lv_aloadq_n hx hb dX5_does_302 rfl (lv_at L 3 rfl)) ?_
        refine x_up (pc' := 304) (fun _ _ _ _ _ L => lv_aload_n hx hb dX5_does_303 rfl (lv_at L 2 rfl)) ?_
        refine x_gi X (kX5 hG) 1 (by decide) q2137 (fun _ h => h) dX5_does_304 hp950 (fun v728 hp951 => ?_)
        refine x_pc (pc' := 307) rfl ?_
        obtain ⟨b729, rfl, hp952⟩ := hp951
        refine x_callVX (em := emI) (fun r st => .int r :: st) (fun _ _ => rfl) 1 X (kX2 hG) (fun σ' KK KX h => R_X2_waits l hl G hG b729 v728 σ' KK KX h) (lw_V q2543 q2544 q2545 q100 q2546) ⟨rfl, mdX2_waits⟩ ⟨Nat.le_of_ble_eq_true rfl, Nat.le_of_ble_eq_true rfl⟩ rfl rfl (Nat.le_of_ble_eq_true rfl) dX5_does_307 hp952.1 hp952.2 (fun v730 σ731 hpA307 => ?_) (fun q732 σ733 hpB307 => ?_)
        · have hp953 := hpA307
          refine x_pc (pc' := 310) rfl ?_
          refine x_vx ?_; exact x_iret X hr rfl dX5_does_310 hp953
        · have hp954 := hpB307
          obtain ⟨hq307, hp955⟩ := hp954
          obtain ⟨hr307, hp956⟩ := hp955
          exact x_out X (kX6 hG) (hout 307) hr307 hq307 hp956
      have hp957 := hp949.2 c196_6
      by_cases c196_7 : (-1 : Int32) = (7 : Int32)
      · have hp958 := hp957.1 c196_7
        refine x_up (pc' := 311) (fun _ _ _ _ _ L => lv_tableIn (off := 115) (tgt := 311) hx hb dX5_does_196 (by rw [c196_7]; decide) (by rw [c196_7]; decide) (by rw [c196_7]; rfl) (by decide)) ?_
        refine x_up (pc' := 312) (fun _ _ _ _ _ L => lv_aloadq_n hx hb dX5_does_311 rfl (lv_at L 3 rfl)) ?_
        refine x_up (pc' := 313) (fun _ _ _ _ _ L => lv_aload_n hx hb dX5_does_312 rfl (lv_at L 2 rfl)) ?_
        refine x_gi X (kX5 hG) 1 (by decide) q2137 (fun _ h => h) dX5_does_313 hp958 (fun v734 hp959 => ?_)
        refine x_pc (pc' := 316) rfl ?_
        refine x_up (pc' := 317) (fun _ _ _ _ _ L => lv_aload_n hx hb dX5_does_316 rfl (lv_at L 2 rfl)) ?_
        refine x_gi X (kX5 hG) 2 (by decide) q2138 (fun _ h => h) dX5_does_317 hp959 (fun v735 hp960 => ?_)
        refine x_pc (pc' := 320) rfl ?_
        obtain ⟨b736, rfl, hp961⟩ := hp960
        refine x_callVX (em := emI) (fun r st => .int r :: st) (fun _ _ => rfl) 2 X (kX2 hG) (fun σ' KK KX h => R_X2_shapes l hl G hG b736 v734 v735 σ' KK KX h) (lw_V q2547 q2548 q2549 q100 q2550) ⟨rfl, mdX2_shapes⟩ ⟨Nat.le_of_ble_eq_true rfl, Nat.le_of_ble_eq_true rfl⟩ rfl rfl (Nat.le_of_ble_eq_true rfl) dX5_does_320 hp961.1 hp961.2 (fun v737 σ738 hpA320 => ?_) (fun q739 σ740 hpB320 => ?_)
        · have hp962 := hpA320
          refine x_pc (pc' := 323) rfl ?_
          refine x_vx ?_; exact x_iret X hr rfl dX5_does_323 hp962
        · have hp963 := hpB320
          obtain ⟨hq320, hp964⟩ := hp963
          obtain ⟨hr320, hp965⟩ := hp964
          exact x_out X (kX6 hG) (hout 320) hr320 hq320 hp965
      have hp966 := hp957.2 c196_7
      refine x_up (pc' := 324) (fun _ _ _ _ _ L => lv_tableOut (tgt := 324) hx hb dX5_does_196 (x_tabOut 0 8 (by decide) (by decide) (by decide) (lt_s (lt_s (lt_s (lt_s (lt_s (lt_s (lt_s (lt_s lt_0 c196_0) c196_1) c196_2) c196_3) c196_4) c196_5) c196_6) c196_7)) (by decide)) ?_
      refine x_up (pc' := 325) (fun _ _ _ _ _ L => lv_aloadq_n hx hb dX5_does_324 rfl (lv_at L 3 rfl)) ?_
      refine x_up (pc' := 326) (fun _ _ _ _ _ L => lv_aload_n hx hb dX5_does_325 rfl (lv_at L 2 rfl)) ?_
      refine x_gi X (kX5 hG) 1 (by decide) q2137 (fun _ h => h) dX5_does_326 hp966 (fun v741 hp967 => ?_)
      refine x_pc (pc' := 329) rfl ?_
      obtain ⟨b742, rfl, hp968⟩ := hp967
      refine x_callVX (em := emI) (fun r st => .int r :: st) (fun _ _ => rfl) 1 X (kX2 hG) (fun σ' KK KX h => R_X2_rules l hl G hG b742 v741 σ' KK KX h) (lw_V q2551 q2552 q2553 q100 q2554) ⟨rfl, mdX2_rules⟩ ⟨Nat.le_of_ble_eq_true rfl, Nat.le_of_ble_eq_true rfl⟩ rfl rfl (Nat.le_of_ble_eq_true rfl) dX5_does_329 hp968.1 hp968.2 (fun v743 σ744 hpA329 => ?_) (fun q745 σ746 hpB329 => ?_)
      · have hp969 := hpA329
        refine x_pc (pc' := 332) rfl ?_
        refine x_vx ?_; exact x_iret X hr rfl dX5_does_332 hp969
      · have hp970 := hpB329
        obtain ⟨hq329, hp971⟩ := hp970
        obtain ⟨hr329, hp972⟩ := hp971
        exact x_out X (kX6 hG) (hout 329) hr329 hq329 hp972
    · have hp973 := hp899.2 c174
      refine x_up (pc' := 179) (fun _ _ _ _ _ L => lv_bipush (v := (6 : Int32)) hx hb dX5_does_177 (by decide)) ?_
      refine x_upL (pc' := 180) (lo' := [(3, .int (6 : Int32)), (2, .ref b2), (0, .ref a0), (1, va_rf x1)]) (fun _ _ _ _ _ L => lv_istore_n hx hb dX5_does_179 rfl L (by decide) rfl) ?_
      refine x_up (pc' := 195) (fun _ _ _ _ _ L => lv_goto (tgt := 195) hx hb dX5_does_180 (by decide)) ?_
      refine x_up (pc' := 196) (fun _ _ _ _ _ L => lv_iload_n hx hb dX5_does_195 rfl (lv_at L 0 rfl)) ?_
      by_cases c196_0 : (6 : Int32) = (0 : Int32)
      · have hp974 := hp973.1 c196_0
        refine x_up (pc' := 244) (fun _ _ _ _ _ L => lv_tableIn (off := 48) (tgt := 244) hx hb dX5_does_196 (by rw [c196_0]; decide) (by rw [c196_0]; decide) (by rw [c196_0]; rfl) (by decide)) ?_
        refine x_up (pc' := 245) (fun _ _ _ _ _ L => lv_aloadq_n hx hb dX5_does_244 rfl (lv_at L 3 rfl)) ?_
        refine x_up (pc' := 246) (fun _ _ _ _ _ L => lv_aload_n hx hb dX5_does_245 rfl (lv_at L 2 rfl)) ?_
        refine x_gi X (kX5 hG) 1 (by decide) q2137 (fun _ h => h) dX5_does_246 hp974 (fun v747 hp975 => ?_)
        refine x_pc (pc' := 249) rfl ?_
        obtain ⟨b748, rfl, hp976⟩ := hp975
        refine x_callVX (em := emI) (fun r st => .int r :: st) (fun _ _ => rfl) 1 X (kX2 hG) (fun σ' KK KX h => R_X2_readsWord l hl G hG b748 v747 σ' KK KX h) (lw_V q2225 q2226 q2227 q100 q2228) ⟨rfl, mdX2_readsWord⟩ ⟨Nat.le_of_ble_eq_true rfl, Nat.le_of_ble_eq_true rfl⟩ rfl rfl (Nat.le_of_ble_eq_true rfl) dX5_does_249 hp976.1 hp976.2 (fun v749 σ750 hpA249 => ?_) (fun q751 σ752 hpB249 => ?_)
        · have hp977 := hpA249
          refine x_pc (pc' := 252) rfl ?_
          refine x_vx ?_; exact x_iret X hr rfl dX5_does_252 hp977
        · have hp978 := hpB249
          obtain ⟨hq249, hp979⟩ := hp978
          obtain ⟨hr249, hp980⟩ := hp979
          exact x_out X (kX6 hG) (hout 249) hr249 hq249 hp980
      have hp981 := hp973.2 c196_0
      by_cases c196_1 : (6 : Int32) = (1 : Int32)
      · have hp982 := hp981.1 c196_1
        refine x_up (pc' := 253) (fun _ _ _ _ _ L => lv_tableIn (off := 57) (tgt := 253) hx hb dX5_does_196 (by rw [c196_1]; decide) (by rw [c196_1]; decide) (by rw [c196_1]; rfl) (by decide)) ?_
        refine x_up (pc' := 254) (fun _ _ _ _ _ L => lv_aloadq_n hx hb dX5_does_253 rfl (lv_at L 3 rfl)) ?_
        refine x_up (pc' := 255) (fun _ _ _ _ _ L => lv_aload_n hx hb dX5_does_254 rfl (lv_at L 2 rfl)) ?_
        refine x_gi X (kX5 hG) 1 (by decide) q2137 (fun _ h => h) dX5_does_255 hp982 (fun v753 hp983 => ?_)
        refine x_pc (pc' := 258) rfl ?_
        refine x_up (pc' := 259) (fun _ _ _ _ _ L => lv_aload_n hx hb dX5_does_258 rfl (lv_at L 2 rfl)) ?_
        refine x_gi X (kX5 hG) 2 (by decide) q2138 (fun _ h => h) dX5_does_259 hp983 (fun v754 hp984 => ?_)
        refine x_pc (pc' := 262) rfl ?_
        obtain ⟨b755, rfl, hp985⟩ := hp984
        refine x_callVX (em := emI) (fun r st => .int r :: st) (fun _ _ => rfl) 2 X (kX2 hG) (fun σ' KK KX h => R_X2_writesWord l hl G hG b755 v753 v754 σ' KK KX h) (lw_V q2497 q2498 q2499 q100 q2500) ⟨rfl, mdX2_writesWord⟩ ⟨Nat.le_of_ble_eq_true rfl, Nat.le_of_ble_eq_true rfl⟩ rfl rfl (Nat.le_of_ble_eq_true rfl) dX5_does_262 hp985.1 hp985.2 (fun v756 σ757 hpA262 => ?_) (fun q758 σ759 hpB262 => ?_)
        · have hp986 := hpA262
          refine x_pc (pc' := 265) rfl ?_
          refine x_vx ?_; exact x_iret X hr rfl dX5_does_265 hp986
        · have hp987 := hpB262
          obtain ⟨hq262, hp988⟩ := hp987
          obtain ⟨hr262, hp989⟩ := hp988
          exact x_out X (kX6 hG) (hout 262) hr262 hq262 hp989
      have hp990 := hp981.2 c196_1
      by_cases c196_2 : (6 : Int32) = (2 : Int32)
      · have hp991 := hp990.1 c196_2
        refine x_up (pc' := 266) (fun _ _ _ _ _ L => lv_tableIn (off := 70) (tgt := 266) hx hb dX5_does_196 (by rw [c196_2]; decide) (by rw [c196_2]; decide) (by rw [c196_2]; rfl) (by decide)) ?_
        refine x_up (pc' := 267) (fun _ _ _ _ _ L => lv_aloadq_n hx hb dX5_does_266 rfl (lv_at L 3 rfl)) ?_
        refine x_up (pc' := 268) (fun _ _ _ _ _ L => lv_aload_n hx hb dX5_does_267 rfl (lv_at L 2 rfl)) ?_
        refine x_gi X (kX5 hG) 1 (by decide) q2137 (fun _ h => h) dX5_does_268 hp991 (fun v760 hp992 => ?_)
        refine x_pc (pc' := 271) rfl ?_
        obtain ⟨b761, rfl, hp993⟩ := hp992
        refine x_callVX (em := emI) (fun r st => .int r :: st) (fun _ _ => rfl) 1 X (kX2 hG) (fun σ' KK KX h => R_X2_pins l hl G hG b761 v760 σ' KK KX h) (lw_V q2509 q2510 q2511 q100 q2512) ⟨rfl, mdX2_pins⟩ ⟨Nat.le_of_ble_eq_true rfl, Nat.le_of_ble_eq_true rfl⟩ rfl rfl (Nat.le_of_ble_eq_true rfl) dX5_does_271 hp993.1 hp993.2 (fun v762 σ763 hpA271 => ?_) (fun q764 σ765 hpB271 => ?_)
        · have hp994 := hpA271
          refine x_pc (pc' := 274) rfl ?_
          refine x_vx ?_; exact x_iret X hr rfl dX5_does_274 hp994
        · have hp995 := hpB271
          obtain ⟨hq271, hp996⟩ := hp995
          obtain ⟨hr271, hp997⟩ := hp996
          exact x_out X (kX6 hG) (hout 271) hr271 hq271 hp997
      have hp998 := hp990.2 c196_2
      by_cases c196_3 : (6 : Int32) = (3 : Int32)
      · have hp999 := hp998.1 c196_3
        refine x_up (pc' := 275) (fun _ _ _ _ _ L => lv_tableIn (off := 79) (tgt := 275) hx hb dX5_does_196 (by rw [c196_3]; decide) (by rw [c196_3]; decide) (by rw [c196_3]; rfl) (by decide)) ?_
        refine x_up (pc' := 276) (fun _ _ _ _ _ L => lv_aloadq_n hx hb dX5_does_275 rfl (lv_at L 3 rfl)) ?_
        refine x_up (pc' := 277) (fun _ _ _ _ _ L => lv_aload_n hx hb dX5_does_276 rfl (lv_at L 2 rfl)) ?_
        refine x_gi X (kX5 hG) 1 (by decide) q2137 (fun _ h => h) dX5_does_277 hp999 (fun v766 hp1000 => ?_)
        refine x_pc (pc' := 280) rfl ?_
        obtain ⟨b767, rfl, hp1001⟩ := hp1000
        refine x_callVX (em := emI) (fun r st => .int r :: st) (fun _ _ => rfl) 1 X (kX2 hG) (fun σ' KK KX h => R_X2_frees l hl G hG b767 v766 σ' KK KX h) (lw_V q2522 q2523 q2524 q100 q2525) ⟨rfl, mdX2_frees⟩ ⟨Nat.le_of_ble_eq_true rfl, Nat.le_of_ble_eq_true rfl⟩ rfl rfl (Nat.le_of_ble_eq_true rfl) dX5_does_280 hp1001.1 hp1001.2 (fun v768 σ769 hpA280 => ?_) (fun q770 σ771 hpB280 => ?_)
        · have hp1002 := hpA280
          refine x_pc (pc' := 283) rfl ?_
          refine x_vx ?_; exact x_iret X hr rfl dX5_does_283 hp1002
        · have hp1003 := hpB280
          obtain ⟨hq280, hp1004⟩ := hp1003
          obtain ⟨hr280, hp1005⟩ := hp1004
          exact x_out X (kX6 hG) (hout 280) hr280 hq280 hp1005
      have hp1006 := hp998.2 c196_3
      by_cases c196_4 : (6 : Int32) = (4 : Int32)
      · have hp1007 := hp1006.1 c196_4
        refine x_up (pc' := 284) (fun _ _ _ _ _ L => lv_tableIn (off := 88) (tgt := 284) hx hb dX5_does_196 (by rw [c196_4]; decide) (by rw [c196_4]; decide) (by rw [c196_4]; rfl) (by decide)) ?_
        refine x_up (pc' := 285) (fun _ _ _ _ _ L => lv_aloadq_n hx hb dX5_does_284 rfl (lv_at L 3 rfl)) ?_
        obtain ⟨b772, rfl, hp1008⟩ := hp1007
        refine x_callVX (em := emI) (fun r st => .int r :: st) (fun _ _ => rfl) 0 X (kX2 hG) (fun σ' KK KX h => R_X2_flushes l hl G hG b772 σ' KK KX h) (lw_V q2526 q2527 q2528 q100 q2529) ⟨rfl, mdX2_flushes⟩ ⟨Nat.le_of_ble_eq_true rfl, Nat.le_of_ble_eq_true rfl⟩ rfl rfl (Nat.le_of_ble_eq_true rfl) dX5_does_285 hp1008.1 hp1008.2 (fun v773 σ774 hpA285 => ?_) (fun q775 σ776 hpB285 => ?_)
        · have hp1009 := hpA285
          refine x_pc (pc' := 288) rfl ?_
          refine x_vx ?_; exact x_iret X hr rfl dX5_does_288 hp1009
        · have hp1010 := hpB285
          obtain ⟨hq285, hp1011⟩ := hp1010
          obtain ⟨hr285, hp1012⟩ := hp1011
          exact x_out X (kX6 hG) (hout 285) hr285 hq285 hp1012
      have hp1013 := hp1006.2 c196_4
      by_cases c196_5 : (6 : Int32) = (5 : Int32)
      · have hp1014 := hp1013.1 c196_5
        refine x_up (pc' := 289) (fun _ _ _ _ _ L => lv_tableIn (off := 93) (tgt := 289) hx hb dX5_does_196 (by rw [c196_5]; decide) (by rw [c196_5]; decide) (by rw [c196_5]; rfl) (by decide)) ?_
        refine x_up (pc' := 290) (fun _ _ _ _ _ L => lv_aloadq_n hx hb dX5_does_289 rfl (lv_at L 3 rfl)) ?_
        refine x_up (pc' := 291) (fun _ _ _ _ _ L => lv_aload_n hx hb dX5_does_290 rfl (lv_at L 2 rfl)) ?_
        refine x_gi X (kX5 hG) 1 (by decide) q2137 (fun _ h => h) dX5_does_291 hp1014 (fun v777 hp1015 => ?_)
        refine x_pc (pc' := 294) rfl ?_
        refine x_up (pc' := 295) (fun _ _ _ _ _ L => lv_aload_n hx hb dX5_does_294 rfl (lv_at L 2 rfl)) ?_
        refine x_gi X (kX5 hG) 2 (by decide) q2138 (fun _ h => h) dX5_does_295 hp1015 (fun v778 hp1016 => ?_)
        refine x_pc (pc' := 298) rfl ?_
        obtain ⟨b779, rfl, hp1017⟩ := hp1016
        refine x_callVX (em := emI) (fun r st => .int r :: st) (fun _ _ => rfl) 2 X (kX2 hG) (fun σ' KK KX h => R_X2_deviceWrites l hl G hG b779 v777 v778 σ' KK KX h) (lw_V q2535 q2536 q2537 q100 q2538) ⟨rfl, mdX2_deviceWrites⟩ ⟨Nat.le_of_ble_eq_true rfl, Nat.le_of_ble_eq_true rfl⟩ rfl rfl (Nat.le_of_ble_eq_true rfl) dX5_does_298 hp1017.1 hp1017.2 (fun v780 σ781 hpA298 => ?_) (fun q782 σ783 hpB298 => ?_)
        · have hp1018 := hpA298
          refine x_pc (pc' := 301) rfl ?_
          refine x_vx ?_; exact x_iret X hr rfl dX5_does_301 hp1018
        · have hp1019 := hpB298
          obtain ⟨hq298, hp1020⟩ := hp1019
          obtain ⟨hr298, hp1021⟩ := hp1020
          exact x_out X (kX6 hG) (hout 298) hr298 hq298 hp1021
      have hp1022 := hp1013.2 c196_5
      by_cases c196_6 : (6 : Int32) = (6 : Int32)
      · have hp1023 := hp1022.1 c196_6
        refine x_up (pc' := 302) (fun _ _ _ _ _ L => lv_tableIn (off := 106) (tgt := 302) hx hb dX5_does_196 (by rw [c196_6]; decide) (by rw [c196_6]; decide) (by rw [c196_6]; rfl) (by decide)) ?_
        refine x_up (pc' := 303) (fun _ _ _ _ _ L => lv_aloadq_n hx hb dX5_does_302 rfl (lv_at L 3 rfl)) ?_
        refine x_up (pc' := 304) (fun _ _ _ _ _ L => lv_aload_n hx hb dX5_does_303 rfl (lv_at L 2 rfl)) ?_
        refine x_gi X (kX5 hG) 1 (by decide) q2137 (fun _ h => h) dX5_does_304 hp1023 (fun v784 hp1024 => ?_)
        refine x_pc (pc' := 307) rfl ?_
        obtain ⟨b785, rfl, hp1025⟩ := hp1024
        refine x_callVX (em := emI) (fun r st => .int r :: st) (fun _ _ => rfl) 1 X (kX2 hG) (fun σ' KK KX h => R_X2_waits l hl G hG b785 v784 σ' KK KX h) (lw_V q2543 q2544 q2545 q100 q2546) ⟨rfl, mdX2_waits⟩ ⟨Nat.le_of_ble_eq_true rfl, Nat.le_of_ble_eq_true rfl⟩ rfl rfl (Nat.le_of_ble_eq_true rfl) dX5_does_307 hp1025.1 hp1025.2 (fun v786 σ787 hpA307 => ?_) (fun q788 σ789 hpB307 => ?_)
        · have hp1026 := hpA307
          refine x_pc (pc' := 310) rfl ?_
          refine x_vx ?_; exact x_iret X hr rfl dX5_does_310 hp1026
        · have hp1027 := hpB307
          obtain ⟨hq307, hp1028⟩ := hp1027
          obtain ⟨hr307, hp1029⟩ := hp1028
          exact x_out X (kX6 hG) (hout 307) hr307 hq307 hp1029
      have hp1030 := hp1022.2 c196_6
      by_cases c196_7 : (6 : Int32) = (7 : Int32)
      · have hp1031 := hp1030.1 c196_7
        refine x_up (pc' := 311) (fun _ _ _ _ _ L => lv_tableIn (off := 115) (tgt := 311) hx hb dX5_does_196 (by rw [c196_7]; decide) (by rw [c196_7]; decide) (by rw [c196_7]; rfl) (by decide)) ?_
        refine x_up (pc' := 312) (fun _ _ _ _ _ L => lv_aloadq_n hx hb dX5_does_311 rfl (lv_at L 3 rfl)) ?_
        refine x_up (pc' := 313) (fun _ _ _ _ _ L => lv_aload_n hx hb dX5_does_312 rfl (lv_at L 2 rfl)) ?_
        refine x_gi X (kX5 hG) 1 (by decide) q2137 (fun _ h => h) dX5_does_313 hp1031 (fun v790 hp1032 => ?_)
        refine x_pc (pc' := 316) rfl ?_
        refine x_up (pc' := 317) (fun _ _ _ _ _ L => lv_aload_n hx hb dX5_does_316 rfl (lv_at L 2 rfl)) ?_
        refine x_gi X (kX5 hG) 2 (by decide) q2138 (fun _ h => h) dX5_does_317 hp1032 (fun v791 hp1033 => ?_)
        refine x_pc (pc' := 320) rfl ?_
        obtain ⟨b792, rfl, hp1034⟩ := hp1033
        refine x_callVX (em := emI) (fun r st => .int r :: st) (fun _ _ => rfl) 2 X (kX2 hG) (fun σ' KK KX h => R_X2_shapes l hl G hG b792 v790 v791 σ' KK KX h) (lw_V q2547 q2548 q2549 q100 q2550) ⟨rfl, mdX2_shapes⟩ ⟨Nat.le_of_ble_eq_true rfl, Nat.le_of_ble_eq_true rfl⟩ rfl rfl (Nat.le_of_ble_eq_true rfl) dX5_does_320 hp1034.1 hp1034.2 (fun v793 σ794 hpA320 => ?_) (fun q795 σ796 hpB320 => ?_)
        · have hp1035 := hpA320
          refine x_pc (pc' := 323) rfl ?_
          refine x_vx ?_; exact x_iret X hr rfl dX5_does_323 hp1035
        · have hp1036 := hpB320
          obtain ⟨hq320, hp1037⟩ := hp1036
          obtain ⟨hr320, hp1038⟩ := hp1037
          exact x_out X (kX6 hG) (hout 320) hr320 hq320 hp1038
      have hp1039 := hp1030.2 c196_7
      refine x_up (pc' := 324) (fun _ _ _ _ _ L => lv_tableOut (tgt := 324) hx hb dX5_does_196 (x_tabOut 0 8 (by decide) (by decide) (by decide) (lt_s (lt_s (lt_s (lt_s (lt_s (lt_s (lt_s (lt_s lt_0 c196_0) c196_1) c196_2) c196_3) c196_4) c196_5) c196_6) c196_7)) (by decide)) ?_
      refine x_up (pc' := 325) (fun _ _ _ _ _ L => lv_aloadq_n hx hb dX5_does_324 rfl (lv_at L 3 rfl)) ?_
      refine x_up (pc' := 326) (fun _ _ _ _ _ L => lv_aload_n hx hb dX5_does_325 rfl (lv_at L 2 rfl)) ?_
      refine x_gi X (kX5 hG) 1 (by decide) q2137 (fun _ h => h) dX5_does_326 hp1039 (fun v797 hp1040 => ?_)
      refine x_pc (pc' := 329) rfl ?_
      obtain ⟨b798, rfl, hp1041⟩ := hp1040
      refine x_callVX (em := emI) (fun r st => .int r :: st) (fun _ _ => rfl) 1 X (kX2 hG) (fun σ' KK KX h => R_X2_rules l hl G hG b798 v797 σ' KK KX h) (lw_V q2551 q2552 q2553 q100 q2554) ⟨rfl, mdX2_rules⟩ ⟨Nat.le_of_ble_eq_true rfl, Nat.le_of_ble_eq_true rfl⟩ rfl rfl (Nat.le_of_ble_eq_true rfl) dX5_does_329 hp1041.1 hp1041.2 (fun v799 σ800 hpA329 => ?_) (fun q801 σ802 hpB329 => ?_)
      · have hp1042 := hpA329
        refine x_pc (pc' := 332) rfl ?_
        refine x_vx ?_; exact x_iret X hr rfl dX5_does_332 hp1042
      · have hp1043 := hpB329
        obtain ⟨hq329, hp1044⟩ := hp1043
        obtain ⟨hr329, hp1045⟩ := hp1044
        exact x_out X (kX6 hG) (hout 329) hr329 hq329 hp1045
  have hp1046 := hp897.2 c11_6
  by_cases c11_7 : v3 = (113399775 : Int32)
  · have hp1047 := hp1046.1 c11_7
    refine x_up (pc' := 98) (fun _ _ _ _ _ L => lv_lookup (off := 87) (tgt := 98) hx hb dX5_does_11 (by decide) (by rw [c11_7]; rfl) (by decide)) ?_
    refine x_up (pc' := 99) (fun _ _ _ _ _ L => lv_aload_n hx hb dX5_does_98 rfl (lv_at L 1 rfl)) ?_
    refine x_ldcS (tx := "write") (q := G.2 12) X (by simp [x_ss, RX5]) dX5_does_99 ?_
    refine x_pc (pc' := 101) rfl ?_
    refine x_callV (em := emI) (fun r st => .int r :: st) (fun _ _ => rfl) 1 X (kJ14 hG) (fun σ' KK h => R_J14_equals l hl G hG b2 (some (G.2 12)) σ' KK h) (lw_V q2217 q679 q3698 q117 q680) ⟨rfl, mdJ14_equals⟩ ⟨Nat.le_of_ble_eq_true rfl, Nat.le_of_ble_eq_true rfl⟩ rfl rfl (Nat.le_of_ble_eq_true rfl) dX5_does_101 hp1047.1 hp1047.2 (fun v803 σ804 hp1048 => ?_)
    refine x_pc (pc' := 104) rfl ?_
    refine x_if (C := v803 = 0) (pt := 195) (pc' := 107) (fun _ _ _ _ _ => lv_if_eq (tgt := 195) hx hb dX5_does_104 (by decide)) (fun c104 => ?_) (fun c104 => ?_)
    · have hp1049 := hp1048.1 c104
      refine x_up (pc' := 196) (fun _ _ _ _ _ L => lv_iload_n hx hb dX5_does_195 rfl (lv_at L 0 rfl)) ?_
      by_cases c196_0 : (-1 : Int32) = (0 : Int32)
      · have hp1050 := hp1049.1 c196_0
        refine x_up (pc' := 244) (fun _ _ _ _ _ L => lv_tableIn (off := 48) (tgt := 244) hx hb dX5_does_196 (by rw [c196_0]; decide) (by rw [c196_0]; decide) (by rw [c196_0]; rfl) (by decide)) ?_
        refine x_up (pc' := 245) (fun _ _ _ _ _ L => lv_aloadq_n hx hb dX5_does_244 rfl (lv_at L 3 rfl)) ?_
        refine x_up (pc' := 246) (fun _ _ _ _ _ L => lv_aload_n hx hb dX5_does_245 rfl (lv_at L 2 rfl)) ?_
        refine x_gi X (kX5 hG) 1 (by decide) q2137 (fun _ h => h) dX5_does_246 hp1050 (fun v805 hp1051 => ?_)
        refine x_pc (pc' := 249) rfl ?_
        obtain ⟨b806, rfl, hp1052⟩ := hp1051
        refine x_callVX (em := emI) (fun r st => .int r :: st) (fun _ _ => rfl) 1 X (kX2 hG) (fun σ' KK KX h => R_X2_readsWord l hl G hG b806 v805 σ' KK KX h) (lw_V q2225 q2226 q2227 q100 q2228) ⟨rfl, mdX2_readsWord⟩ ⟨Nat.le_of_ble_eq_true rfl, Nat.le_of_ble_eq_true rfl⟩ rfl rfl (Nat.le_of_ble_eq_true rfl) dX5_does_249 hp1052.1 hp1052.2 (fun v807 σ808 hpA249 => ?_) (fun q809 σ810 hpB249 => ?_)
        · have hp1053 := hpA249
          refine x_pc (pc' := 252) rfl ?_
          refine x_vx ?_; exact x_iret X hr rfl dX5_does_252 hp1053
        · have hp1054 := hpB249
          obtain ⟨hq249, hp1055⟩ := hp1054
          obtain ⟨hr249, hp1056⟩ := hp1055
          exact x_out X (kX6 hG) (hout 249) hr249 hq249 hp1056
      have hp1057 := hp1049.2 c196_0
      by_cases c196_1 : (-1 : Int32) = (1 : Int32)
      · have hp1058 := hp1057.1 c196_1
        refine x_up (pc' := 253) (fun _ _ _ _ _ L => lv_tableIn (off := 57) (tgt := 253) hx hb dX5_does_196 (by rw [c196_1]; decide) (by rw [c196_1]; decide) (by rw [c196_1]; rfl) (by decide)) ?_
        refine x_up (pc' := 254) (fun _ _ _ _ _ L => lv_aloadq_n hx hb dX5_does_253 rfl (lv_at L 3 rfl)) ?_
        refine x_up (pc' := 255) (fun _ _ _ _ _ L => lv_aload_n hx hb dX5_does_254 rfl (lv_at L 2 rfl)) ?_
        refine x_gi X (kX5 hG) 1 (by decide) q2137 (fun _ h => h) dX5_does_255 hp1058 (fun v811 hp1059 => ?_)
        refine x_pc (pc' := 258) rfl ?_
        refine x_up (pc' := 259) (fun _ _ _ _ _ L => lv_aload_n hx hb dX5_does_258 rfl (lv_at L 2 rfl)) ?_
        refine x_gi X (kX5 hG) 2 (by decide) q2138 (fun _ h => h) dX5_does_259 hp1059 (fun v812 hp1060 => ?_)
        refine x_pc (pc' := 262) rfl ?_
        obtain ⟨b813, rfl, hp1061⟩ := hp1060
        refine x_callVX (em := emI) (fun r st => .int r :: st) (fun _ _ => rfl) 2 X (kX2 hG) (fun σ' KK KX h => R_X2_writesWord l hl G hG b813 v811 v812 σ' KK KX h) (lw_V q2497 q2498 q2499 q100 q2500) ⟨rfl, mdX2_writesWord⟩ ⟨Nat.le_of_ble_eq_true rfl, Nat.le_of_ble_eq_true rfl⟩ rfl rfl (Nat.le_of_ble_eq_true rfl) dX5_does_262 hp1061.1 hp1061.2 (fun v814 σ815 hpA262 => ?_) (fun q816 σ817 hpB262 => ?_)
        · have hp1062 := hpA262
          refine x_pc (pc' := 265) rfl ?_
          refine x_vx ?_; exact x_iret X hr rfl dX5_does_265 hp1062
        · have hp1063 := hpB262
          obtain ⟨hq262, hp1064⟩ := hp1063
          obtain ⟨hr262, hp1065⟩ := hp1064
          exact x_out X (kX6 hG) (hout 262) hr262 hq262 hp1065
      have hp1066 := hp1057.2 c196_1
      by_cases c196_2 : (-1 : Int32) = (2 : Int32)
      · have hp1067 := hp1066.1 c196_2
        refine x_up (pc' := 266) (fun _ _ _ _ _ L => lv_tableIn (off := 70) (tgt := 266) hx hb dX5_does_196 (by rw [c196_2]; decide) (by rw [c196_2]; decide) (by rw [c196_2]; rfl) (by decide)) ?_
        refine x_up (pc' := 267) (fun _ _ _ _ _ L => lv_aloadq_n hx hb dX5_does_266 rfl (lv_at L 3 rfl)) ?_
        refine x_up (pc' := 268) (fun _ _ _ _ _ L => lv_aload_n hx hb dX5_does_267 rfl (lv_at L 2 rfl)) ?_
        refine x_gi X (kX5 hG) 1 (by decide) q2137 (fun _ h => h) dX5_does_268 hp1067 (fun v818 hp1068 => ?_)
        refine x_pc (pc' := 271) rfl ?_
        obtain ⟨b819, rfl, hp1069⟩ := hp1068
        refine x_callVX (em := emI) (fun r st => .int r :: st) (fun _ _ => rfl) 1 X (kX2 hG) (fun σ' KK KX h => R_X2_pins l hl G hG b819 v818 σ' KK KX h) (lw_V q2509 q2510 q2511 q100 q2512) ⟨rfl, mdX2_pins⟩ ⟨Nat.le_of_ble_eq_true rfl, Nat.le_of_ble_eq_true rfl⟩ rfl rfl (Nat.le_of_ble_eq_true rfl) dX5_does_271 hp1069.1 hp1069.2 (fun v820 σ821 hpA271 => ?_) (fun q822 σ823 hpB271 => ?_)
        · have hp1070 := hpA271
          refine x_pc (pc' := 274) rfl ?_
          refine x_vx ?_; exact x_iret X hr rfl dX5_does_274 hp1070
        · have hp1071 := hpB271
          obtain ⟨hq271, hp1072⟩ := hp1071
          obtain ⟨hr271, hp1073⟩ := hp1072
          exact x_out X (kX6 hG) (hout 271) hr271 hq271 hp1073
      have hp1074 := hp1066.2 c196_2
      by_cases c196_3 : (-1 : Int32) = (3 : Int32)
      · have hp1075 := hp1074.1 c196_3
        refine x_up (pc' := 275) (fun _ _ _ _ _ L => lv_tableIn (off := 79) (tgt := 275) hx hb dX5_does_196 (by rw [c196_3]; decide) (by rw [c196_3]; decide) (by rw [c196_3]; rfl) (by decide)) ?_
        refine x_up (pc' := 276) (fun _ _ _ _ _ L => lv_aloadq_n hx hb dX5_does_275 rfl (lv_at L 3 rfl)) ?_
        refine x_up (pc' := 277) (fun _ _ _ _ _ L => lv_aload_n hx hb dX5_does_276 rfl (lv_at L 2 rfl)) ?_
        refine x_gi X (kX5 hG) 1 (by decide) q2137 (fun _ h => h) dX5_does_277 hp1075 (fun v824 hp1076 => ?_)
        refine x_pc (pc' := 280) rfl ?_
        obtain ⟨b825, rfl, hp1077⟩ := hp1076
        refine x_callVX (em := emI) (fun r st => .int r :: st) (fun _ _ => rfl) 1 X (kX2 hG) (fun σ' KK KX h => R_X2_frees l hl G hG b825 v824 σ' KK KX h) (lw_V q2522 q2523 q2524 q100 q2525) ⟨rfl, mdX2_frees⟩ ⟨Nat.le_of_ble_eq_true rfl, Nat.le_of_ble_eq_true rfl⟩ rfl rfl (Nat.le_of_ble_eq_true rfl) dX5_does_280 hp1077.1 hp1077.2 (fun v826 σ827 hpA280 => ?_) (fun q828 σ829 hpB280 => ?_)
        · have hp1078 := hpA280
          refine x_pc (pc' := 283) rfl ?_
          refine x_vx ?_; exact x_iret X hr rfl dX5_does_283 hp1078
        · have hp1079 := hpB280
          obtain ⟨hq280, hp1080⟩ := hp1079
          obtain ⟨hr280, hp1081⟩ := hp1080
          exact x_out X (kX6 hG) (hout 280) hr280 hq280 hp1081
      have hp1082 := hp1074.2 c196_3
      by_cases c196_4 : (-1 : Int32) = (4 : Int32)
      · have hp1083 := hp1082.1 c196_4
        refine x_up (pc' := 284) (fun _ _ _ _ _ L => lv_tableIn (off := 88) (tgt := 284) hx hb dX5_does_196 (by rw [c196_4]; decide) (by rw [c196_4]; decide) (by rw [c196_4]; rfl) (by decide)) ?_
        refine x_up (pc' := 285) (fun _ _ _ _ _ L => lv_aloadq_n hx hb dX5_does_284 rfl (lv_at L 3 rfl)) ?_
        obtain ⟨b830, rfl, hp1084⟩ := hp1083
        refine x_callVX (em := emI) (fun r st => .int r :: st) (fun _ _ => rfl) 0 X (kX2 hG) (fun σ' KK KX h => R_X2_flushes l hl G hG b830 σ' KK KX h) (lw_V q2526 q2527 q2528 q100 q2529) ⟨rfl, mdX2_flushes⟩ ⟨Nat.le_of_ble_eq_true rfl, Nat.le_of_ble_eq_true rfl⟩ rfl rfl (Nat.le_of_ble_eq_true rfl) dX5_does_285 hp1084.1 hp1084.2 (fun v831 σ832 hpA285 => ?_) (fun q833 σ834 hpB285 => ?_)
        · have hp1085 := hpA285
          refine x_pc (pc' := 288) rfl ?_
          refine x_vx ?_; exact x_iret X hr rfl dX5_does_288 hp1085
        · have hp1086 := hpB285
          obtain ⟨hq285, hp1087⟩ := hp1086
          obtain ⟨hr285, hp1088⟩ := hp1087
          exact x_out X (kX6 hG) (hout 285) hr285 hq285 hp1088
      have hp1089 := hp1082.2 c196_4
      by_cases c196_5 : (-1 : Int32) = (5 : Int32)
      · have hp1090 := hp1089.1 c196_5
        refine x_up (pc' := 289) (fun _ _ _ _ _ L => lv_tableIn (off := 93) (tgt := 289) hx hb dX5_does_196 (by rw [c196_5]; decide) (by rw [c196_5]; decide) (by rw [c196_5]; rfl) (by decide)) ?_
        refine x_up (pc' := 290) (fun _ _ _ _ _ L => lv_aloadq_n hx hb dX5_does_289 rfl (lv_at L 3 rfl)) ?_
        refine x_up (pc' := 291) (fun _ _ _ _ _ L => lv_aload_n hx hb dX5_does_290 rfl (lv_at L 2 rfl)) ?_
        refine x_gi X (kX5 hG) 1 (by decide) q2137 (fun _ h => h) dX5_does_291 hp1090 (fun v835 hp1091 => ?_)
        refine x_pc (pc' := 294) rfl ?_
        refine x_up (pc' := 295) (fun _ _ _ _ _ L => lv_aload_n hx hb dX5_does_294 rfl (lv_at L 2 rfl)) ?_
        refine x_gi X (kX5 hG) 2 (by decide) q2138 (fun _ h => h) dX5_does_295 hp1091 (fun v836 hp1092 => ?_)
        refine x_pc (pc' := 298) rfl ?_
        obtain ⟨b837, rfl, hp1093⟩ := hp1092
        refine x_callVX (em := emI) (fun r st => .int r :: st) (fun _ _ => rfl) 2 X (kX2 hG) (fun σ' KK KX h => R_X2_deviceWrites l hl G hG b837 v835 v836 σ' KK KX h) (lw_V q2535 q2536 q2537 q100 q2538) ⟨rfl, mdX2_deviceWrites⟩ ⟨Nat.le_of_ble_eq_true rfl, Nat.le_of_ble_eq_true rfl⟩ rfl rfl (Nat.le_of_ble_eq_true rfl) dX5_does_298 hp1093.1 hp1093.2 (fun v838 σ839 hpA298 => ?_) (fun q840 σ841 hpB298 => ?_)
        · have hp1094 := hpA298
          refine x_pc (pc' := 301) rfl ?_
          refine x_vx ?_; exact x_iret X hr rfl dX5_does_301 hp1094
        · have hp1095 := hpB298
          obtain ⟨hq298, hp1096⟩ := hp1095
          obtain ⟨hr298, hp1097⟩ := hp1096
          exact x_out X (kX6 hG) (hout 298) hr298 hq298 hp1097
      have hp1098 := hp1089.2 c196_5
      by_cases c196_6 : (-1 : Int32) = (6 : Int32)
      · have hp1099 := hp1098.1 c196_6
        refine x_up (pc' := 302) (fun _ _ _ _ _ L => lv_tableIn (off := 106) (tgt := 302) hx hb dX5_does_196 (by rw [c196_6]; decide) (by rw [c196_6]; decide) (by rw [c196_6]; rfl) (by decide)) ?_
        refine x_up (pc' := 303) (fun _ _ _ _ _ L => lv_aloadq_n hx hb dX5_does_302 rfl (lv_at L 3 rfl)) ?_
        refine x_up (pc' := 304) (fun _ _ _ _ _ L => lv_aload_n hx hb dX5_does_303 rfl (lv_at L 2 rfl)) ?_
        refine x_gi X (kX5 hG) 1 (by decide) q2137 (fun _ h => h) dX5_does_304 hp1099 (fun v842 hp1100 => ?_)
        refine x_pc (pc' := 307) rfl ?_
        obtain ⟨b843, rfl, hp1101⟩ := hp1100
        refine x_callVX (em := emI) (fun r st => .int r :: st) (fun _ _ => rfl) 1 X (kX2 hG) (fun σ' KK KX h => R_X2_waits l hl G hG b843 v842 σ' KK KX h) (lw_V q2543 q2544 q2545 q100 q2546) ⟨rfl, mdX2_waits⟩ ⟨Nat.le_of_ble_eq_true rfl, Nat.le_of_ble_eq_true rfl⟩ rfl rfl (Nat.le_of_ble_eq_true rfl) dX5_does_307 hp1101.1 hp1101.2 (fun v844 σ845 hpA307 => ?_) (fun q846 σ847 hpB307 => ?_)
        · have hp1102 := hpA307
          refine x_pc (pc' := 310) rfl ?_
          refine x_vx ?_; exact x_iret X hr rfl dX5_does_310 hp1102
        · have hp1103 := hpB307
          obtain ⟨hq307, hp1104⟩ := hp1103
          obtain ⟨hr307, hp1105⟩ := hp1104
          exact x_out X (kX6 hG) (hout 307) hr307 hq307 hp1105
      have hp1106 := hp1098.2 c196_6
      by_cases c196_7 : (-1 : Int32) = (7 : Int32)
      · have hp1107 := hp1106.1 c196_7
        refine x_up (pc' := 311) (fun _ _ _ _ _ L => lv_tableIn (off := 115) (tgt := 311) hx hb dX5_does_196 (by rw [c196_7]; decide) (by rw [c196_7]; decide) (by rw [c196_7]; rfl) (by decide)) ?_
        refine x_up (pc' := 312) (fun _ _ _ _ _ L => lv_aloadq_n hx hb dX5_does_311 rfl (lv_at L 3 rfl)) ?_
        refine x_up (pc' := 313) (fun _ _ _ _ _ L => lv_aload_n hx hb dX5_does_312 rfl (lv_at L 2 rfl)) ?_
        refine x_gi X (kX5 hG) 1 (by decide) q2137 (fun _ h => h) dX5_does_313 hp1107 (fun v848 hp1108 => ?_)
        refine x_pc (pc' := 316) rfl ?_
        refine x_up (pc' := 317) (fun _ _ _ _ _ L => lv_aload_n hx hb dX5_does_316 rfl (lv_at L 2 rfl)) ?_
        refine x_gi X (kX5 hG) 2 (by decide) q2138 (fun _ h => h) dX5_does_317 hp1108 (fun v849 hp1109 => ?_)
        refine x_pc (pc' := 320) rfl ?_
        obtain ⟨b850, rfl, hp1110⟩ := hp1109
        refine x_callVX (em := emI) (fun r st => .int r :: st) (fun _ _ => rfl) 2 X (kX2 hG) (fun σ' KK KX h => R_X2_shapes l hl G hG b850 v848 v849 σ' KK KX h) (lw_V q2547 q2548 q2549 q100 q2550) ⟨rfl, mdX2_shapes⟩ ⟨Nat.le_of_ble_eq_true rfl, Nat.le_of_ble_eq_true rfl⟩ rfl rfl (Nat.le_of_ble_eq_true rfl) dX5_does_320 hp1110.1 hp1110.2 (fun v851 σ852 hpA320 => ?_) (fun q853 σ854 hpB320 => ?_)
        · have hp1111 := hpA320
          refine x_pc (pc' := 323) rfl ?_
          refine x_vx ?_; exact x_iret X hr rfl dX5_does_323 hp1111
        · have hp1112 := hpB320
          obtain ⟨hq320, hp1113⟩ := hp1112
          obtain ⟨hr320, hp1114⟩ := hp1113
          exact x_out X (kX6 hG) (hout 320) hr320 hq320 hp1114
      have hp1115 := hp1106.2 c196_7
      refine x_up (pc' := 324) (fun _ _ _ _ _ L => lv_tableOut (tgt := 324) hx hb dX5_does_196 (x_tabOut 0 8 (by decide) (by decide) (by decide) (lt_s (lt_s (lt_s (lt_s (lt_s (lt_s (lt_s (lt_s lt_0 c196_0) c196_1) c196_2) c196_3) c196_4) c196_5) c196_6) c196_7)) (by decide)) ?_
      refine x_up (pc' := 325) (fun _ _ _ _ _ L => lv_aloadq_n hx hb dX5_does_324 rfl (lv_at L 3 rfl)) ?_
      refine x_up (pc' := 326) (fun _ _ _ _ _ L => lv_aload_n hx hb dX5_does_325 rfl (lv_at L 2 rfl)) ?_
      refine x_gi X (kX5 hG) 1 (by decide) q2137 (fun _ h => h) dX5_does_326 hp1115 (fun v855 hp1116 => ?_)
      refine x_pc (pc' := 329) rfl ?_
      obtain ⟨b856, rfl, hp1117⟩ := hp1116
      refine x_callVX (em := emI) (fun r st => .int r :: st) (fun _ _ => rfl) 1 X (kX2 hG) (fun σ' KK KX h => R_X2_rules l hl G hG b856 v855 σ' KK KX h) (lw_V q2551 q2552 q2553 q100 q2554) ⟨rfl, mdX2_rules⟩ ⟨Nat.le_of_ble_eq_true rfl, Nat.le_of_ble_eq_true rfl⟩ rfl rfl (Nat.le_of_ble_eq_true rfl) dX5_does_329 hp1117.1 hp1117.2 (fun v857 σ858 hpA329 => ?_) (fun q859 σ860 hpB329 => ?_)
      · have hp1118 := hpA329
        refine x_pc (pc' := 332) rfl ?_
        refine x_vx ?_; exact x_iret X hr rfl dX5_does_332 hp1118
      · have hp1119 := hpB329
        obtain ⟨hq329, hp1120⟩ := hp1119
        obtain ⟨hr329, hp1121⟩ := hp1120
        exact x_out X (kX6 hG) (hout 329) hr329 hq329 hp1121
    · have hp1122 := hp1048.2 c104
      refine x_up (pc' := 108) (fun _ _ _ _ _ L => lv_iconst (v := (1 : Int32)) hx hb dX5_does_107 (by decide)) ?_
      refine x_upL (pc' := 109) (lo' := [(3, .int (1 : Int32)), (2, .ref b2), (0, .ref a0), (1, va_rf x1)]) (fun _ _ _ _ _ L => lv_istore_n hx hb dX5_does_108 rfl L (by decide) rfl) ?_
      refine x_up (pc' := 195) (fun _ _ _ _ _ L => lv_goto (tgt := 195) hx hb dX5_does_109 (by decide)) ?_
      refine x_up (pc' := 196) (fun _ _ _ _ _ L => lv_iload_n hx hb dX5_does_195 rfl (lv_at L 0 rfl)) ?_
      by_cases c196_0 : (1 : Int32) = (0 : Int32)
      · have hp1123 := hp1122.1 c196_0
        refine x_up (pc' := 244) (fun _ _ _ _ _ L => lv_tableIn (off := 48) (tgt := 244) hx hb dX5_does_196 (by rw [c196_0]; decide) (by rw [c196_0]; decide) (by rw [c196_0]; rfl) (by decide)) ?_
        refine x_up (pc' := 245) (fun _ _ _ _ _ L => lv_aloadq_n hx hb dX5_does_244 rfl (lv_at L 3 rfl)) ?_
        refine x_up (pc' := 246) (fun _ _ _ _ _ L => lv_aload_n hx hb dX5_does_245 rfl (lv_at L 2 rfl)) ?_
        refine x_gi X (kX5 hG) 1 (by decide) q2137 (fun _ h => h) dX5_does_246 hp1123 (fun v861 hp1124 => ?_)
        refine x_pc (pc' := 249) rfl ?_
        obtain ⟨b862, rfl, hp1125⟩ := hp1124
        refine x_callVX (em := emI) (fun r st => .int r :: st) (fun _ _ => rfl) 1 X (kX2 hG) (fun σ' KK KX h => R_X2_readsWord l hl G hG b862 v861 σ' KK KX h) (lw_V q2225 q2226 q2227 q100 q2228) ⟨rfl, mdX2_readsWord⟩ ⟨Nat.le_of_ble_eq_true rfl, Nat.le_of_ble_eq_true rfl⟩ rfl rfl (Nat.le_of_ble_eq_true rfl) dX5_does_249 hp1125.1 hp1125.2 (fun v863 σ864 hpA249 => ?_) (fun q865 σ866 hpB249 => ?_)
        · have hp1126 := hpA249
          refine x_pc (pc' := 252) rfl ?_
          refine x_vx ?_; exact x_iret X hr rfl dX5_does_252 hp1126
        · have hp1127 := hpB249
          obtain ⟨hq249, hp1128⟩ := hp1127
          obtain ⟨hr249, hp1129⟩ := hp1128
          exact x_out X (kX6 hG) (hout 249) hr249 hq249 hp1129
      have hp1130 := hp1122.2 c196_0
      by_cases c196_1 : (1 : Int32) = (1 : Int32)
      · have hp1131 := hp1130.1 c196_1
        refine x_up (pc' := 253) (fun _ _ _ _ _ L => lv_tableIn (off := 57) (tgt := 253) hx hb dX5_does_196 (by rw [c196_1]; decide) (by rw [c196_1]; decide) (by rw [c196_1]; rfl) (by decide)) ?_
        refine x_up (pc' := 254) (fun _ _ _ _ _ L => lv_aloadq_n hx hb dX5_does_253 rfl (lv_at L 3 rfl)) ?_
        refine x_up (pc' := 255) (fun _ _ _ _ _ L => lv_aload_n hx hb dX5_does_254 rfl (lv_at L 2 rfl)) ?_
        refine x_gi X (kX5 hG) 1 (by decide) q2137 (fun _ h => h) dX5_does_255 hp1131 (fun v867 hp1132 => ?_)
        refine x_pc (pc' := 258) rfl ?_
        refine x_up (pc' := 259) (fun _ _ _ _ _ L => lv_aload_n hx hb dX5_does_258 rfl (lv_at L 2 rfl)) ?_
        refine x_gi X (kX5 hG) 2 (by decide) q2138 (fun _ h => h) dX5_does_259 hp1132 (fun v868 hp1133 => ?_)
        refine x_pc (pc' := 262) rfl ?_
        obtain ⟨b869, rfl, hp1134⟩ := hp1133
        refine x_callVX (em := emI) (fun r st => .int r :: st) (fun _ _ => rfl) 2 X (kX2 hG) (fun σ' KK KX h => R_X2_writesWord l hl G hG b869 v867 v868 σ' KK KX h) (lw_V q2497 q2498 q2499 q100 q2500) ⟨rfl, mdX2_writesWord⟩ ⟨Nat.le_of_ble_eq_true rfl, Nat.le_of_ble_eq_true rfl⟩ rfl rfl (Nat.le_of_ble_eq_true rfl) dX5_does_262 hp1134.1 hp1134.2 (fun v870 σ871 hpA262 => ?_) (fun q872 σ873 hpB262 => ?_)
        · have hp1135 := hpA262
          refine x_pc (pc' := 265) rfl ?_
          refine x_vx ?_; exact x_iret X hr rfl dX5_does_265 hp1135
        · have hp1136 := hpB262
          obtain ⟨hq262, hp1137⟩ := hp1136
          obtain ⟨hr262, hp1138⟩ := hp1137
          exact x_out X (kX6 hG) (hout 262) hr262 hq262 hp1138
      have hp1139 := hp1130.2 c196_1
      by_cases c196_2 : (1 : Int32) = (2 : Int32)
      · have hp1140 := hp1139.1 c196_2
        refine x_up (pc' := 266) (fun _ _ _ _ _ L => lv_tableIn (off := 70) (tgt := 266) hx hb dX5_does_196 (by rw [c196_2]; decide) (by rw [c196_2]; decide) (by rw [c196_2]; rfl) (by decide)) ?_
        refine x_up (pc' := 267) (fun _ _ _ _ _ L => lv_aloadq_n hx hb dX5_does_266 rfl (lv_at L 3 rfl)) ?_
        refine x_up (pc' := 268) (fun _ _ _ _ _ L => lv_aload_n hx hb dX5_does_267 rfl (lv_at L 2 rfl)) ?_
        refine x_gi X (kX5 hG) 1 (by decide) q2137 (fun _ h => h) dX5_does_268 hp1140 (fun v874 hp1141 => ?_)
        refine x_pc (pc' := 271) rfl ?_
        obtain ⟨b875, rfl, hp1142⟩ := hp1141
        refine x_callVX (em := emI) (fun r st => .int r :: st) (fun _ _ => rfl) 1 X (kX2 hG) (fun σ' KK KX h => R_X2_pins l hl G hG b875 v874 σ' KK KX h) (lw_V q2509 q2510 q2511 q100 q2512) ⟨rfl, mdX2_pins⟩ ⟨Nat.le_of_ble_eq_true rfl, Nat.le_of_ble_eq_true rfl⟩ rfl rfl (Nat.le_of_ble_eq_true rfl) dX5_does_271 hp1142.1 hp1142.2 (fun v876 σ877 hpA271 => ?_) (fun q878 σ879 hpB271 => ?_)
        · have hp1143 := hpA271
          refine x_pc (pc' := 274) rfl ?_
          refine x_vx ?_; exact x_iret X hr rfl dX5_does_274 hp1143
        · have hp1144 := hpB271
          obtain ⟨hq271, hp1145⟩ := hp1144
          obtain ⟨hr271, hp1146⟩ := hp1145
          exact x_out X (kX6 hG) (hout 271) hr271 hq271 hp1146
      have hp1147 := hp1139.2 c196_2
      by_cases c196_3 : (1 : Int32) = (3 : Int32)
      · have hp1148 := hp1147.1 c196_3
        refine x_up (pc' := 275) (fun _ _ _ _ _ L => lv_tableIn (off := 79) (tgt := 275) hx hb dX5_does_196 (by rw [c196_3]; decide) (by rw [c196_3]; decide) (by rw [c196_3]; rfl) (by decide)) ?_
        refine x_up (pc' := 276) (fun _ _ _ _ _ L => lv_aloadq_n hx hb dX5_does_275 rfl (lv_at L 3 rfl)) ?_
        refine x_up (pc' := 277) (fun _ _ _ _ _ L => lv_aload_n hx hb dX5_does_276 rfl (lv_at L 2 rfl)) ?_
        refine x_gi X (kX5 hG) 1 (by decide) q2137 (fun _ h => h) dX5_does_277 hp1148 (fun v880 hp1149 => ?_)
        refine x_pc (pc' := 280) rfl ?_
        obtain ⟨b881, rfl, hp1150⟩ := hp1149
        refine x_callVX (em := emI) (fun r st => .int r :: st) (fun _ _ => rfl) 1 X (kX2 hG) (fun σ' KK KX h => R_X2_frees l hl G hG b881 v880 σ' KK KX h) (lw_V q2522 q2523 q2524 q100 q2525) ⟨rfl, mdX2_frees⟩ ⟨Nat.le_of_ble_eq_true rfl, Nat.le_of_ble_eq_true rfl⟩ rfl rfl (Nat.le_of_ble_eq_true rfl) dX5_does_280 hp1150.1 hp1150.2 (fun v882 σ883 hpA280 => ?_) (fun q884 σ885 hpB280 => ?_)
        · have hp1151 := hpA280
          refine x_pc (pc' := 283) rfl ?_
          refine x_vx ?_; exact x_iret X hr rfl dX5_does_283 hp1151
        · have hp1152 := hpB280
          obtain ⟨hq280, hp1153⟩ := hp1152
          obtain ⟨hr280, hp1154⟩ := hp1153
          exact x_out X (kX6 hG) (hout 280) hr280 hq280 hp1154
      have hp1155 := hp1147.2 c196_3
      by_cases c196_4 : (1 : Int32) = (4 : Int32)
      · have hp1156 := hp1155.1 c196_4
        refine x_up (pc' := 284) (fun _ _ _ _ _ L => lv_tableIn (off := 88) (tgt := 284) hx hb dX5_does_196 (by rw [c196_4]; decide) (by rw [c196_4]; decide) (by rw [c196_4]; rfl) (by decide)) ?_
        refine x_up (pc' := 285) (fun _ _ _ _ _ L => lv_aloadq_n hx hb dX5_does_284 rfl (lv_at L 3 rfl)) ?_
        obtain ⟨b886, rfl, hp1157⟩ := hp1156
        refine x_callVX (em := emI) (fun r st => .int r :: st) (fun _ _ => rfl) 0 X (kX2 hG) (fun σ' KK KX h => R_X2_flushes l hl G hG b886 σ' KK KX h) (lw_V q2526 q2527 q2528 q100 q2529) ⟨rfl, mdX2_flushes⟩ ⟨Nat.le_of_ble_eq_true rfl, Nat.le_of_ble_eq_true rfl⟩ rfl rfl (Nat.le_of_ble_eq_true rfl) dX5_does_285 hp1157.1 hp1157.2 (fun v887 σ888 hpA285 => ?_) (fun q889 σ890 hpB285 => ?_)
        · have hp1158 := hpA285
          refine x_pc (pc' := 288) rfl ?_
          refine x_vx ?_; exact x_iret X hr rfl dX5_does_288 hp1158
        · have hp1159 := hpB285
          obtain ⟨hq285, hp1160⟩ := hp1159
          obtain ⟨hr285, hp1161⟩ := hp1160
          exact x_out X (kX6 hG) (hout 285) hr285 hq285 hp1161
      have hp1162 := hp1155.2 c196_4
      by_cases c196_5 : (1 : Int32) = (5 : Int32)
      · have hp1163 := hp1162.1 c196_5
        refine x_up (pc' := 289) (fun _ _ _ _ _ L => lv_tableIn (off := 93) (tgt := 289) hx hb dX5_does_196 (by rw [c196_5]; decide) (by rw [c196_5]; decide) (by rw [c196_5]; rfl) (by decide)) ?_
        refine x_up (pc' := 290) (fun _ _ _ _ _ L => lv_aloadq_n hx hb dX5_does_289 rfl (lv_at L 3 rfl)) ?_
        refine x_up (pc' := 291) (fun _ _ _ _ _ L => lv_aload_n hx hb dX5_does_290 rfl (lv_at L 2 rfl)) ?_
        refine x_gi X (kX5 hG) 1 (by decide) q2137 (fun _ h => h) dX5_does_291 hp1163 (fun v891 hp1164 => ?_)
        refine x_pc (pc' := 294) rfl ?_
        refine x_up (pc' := 295) (fun _ _ _ _ _ L => lv_aload_n hx hb dX5_does_294 rfl (lv_at L 2 rfl)) ?_
        refine x_gi X (kX5 hG) 2 (by decide) q2138 (fun _ h => h) dX5_does_295 hp1164 (fun v892 hp1165 => ?_)
        refine x_pc (pc' := 298) rfl ?_
        obtain ⟨b893, rfl, hp1166⟩ := hp1165
        refine x_callVX (em := emI) (fun r st => .int r :: st) (fun _ _ => rfl) 2 X (kX2 hG) (fun σ' KK KX h => R_X2_deviceWrites l hl G hG b893 v891 v892 σ' KK KX h) (lw_V q2535 q2536 q2537 q100 q2538) ⟨rfl, mdX2_deviceWrites⟩ ⟨Nat.le_of_ble_eq_true rfl, Nat.le_of_ble_eq_true rfl⟩ rfl rfl (Nat.le_of_ble_eq_true rfl) dX5_does_298 hp1166.1 hp1166.2 (fun v894 σ895 hpA298 => ?_) (fun q896 σ897 hpB298 => ?_)
        · have hp1167 := hpA298
          refine x_pc (pc' := 301) rfl ?_
          refine x_vx ?_; exact x_iret X hr rfl dX5_does_301 hp1167
        · have hp1168 := hpB298
          obtain ⟨hq298, hp1169⟩ := hp1168
          obtain ⟨hr298, hp1170⟩ := hp1169
          exact x_out X (kX6 hG) (hout 298) hr298 hq298 hp1170
      have hp1171 := hp1162.2 c196_5
      by_cases c196_6 : (1 : Int32) = (6 : Int32)
      · have hp1172 := hp1171.1 c196_6
        refine x_up (pc' := 302) (fun _ _ _ _ _ L => lv_tableIn (off := 106) (tgt := 302) hx hb dX5_does_196 (by rw [c196_6]; decide) (by rw [c196_6]; decide) (by rw [c196_6]; rfl) (by decide)) ?_
        refine x_up (pc' := 303) (fun _ _ _ _ _ L => lv_aloadq_n hx hb dX5_does_302 rfl (lv_at L 3 rfl)) ?_
        refine x_up (pc' := 304) (fun _ _ _ _ _ L => lv_aload_n hx hb dX5_does_303 rfl (lv_at L 2 rfl)) ?_
        refine x_gi X (kX5 hG) 1 (by decide) q2137 (fun _ h => h) dX5_does_304 hp1172 (fun v898 hp1173 => ?_)
        refine x_pc (pc' := 307) rfl ?_
        obtain ⟨b899, rfl, hp1174⟩ := hp1173
        refine x_callVX (em := emI) (fun r st => .int r :: st) (fun _ _ => rfl) 1 X (kX2 hG) (fun σ' KK KX h => R_X2_waits l hl G hG b899 v898 σ' KK KX h) (lw_V q2543 q2544 q2545 q100 q2546) ⟨rfl, mdX2_waits⟩ ⟨Nat.le_of_ble_eq_true rfl, Nat.le_of_ble_eq_true rfl⟩ rfl rfl (Nat.le_of_ble_eq_true rfl) dX5_does_307 hp1174.1 hp1174.2 (fun v900 σ901 hpA307 => ?_) (fun q902 σ903 hpB307 => ?_)
        · have hp1175 := hpA307
          refine x_pc (pc' := 310) rfl ?_
          refine x_vx ?_; exact x_iret X hr rfl dX5_does_310 hp1175
        · have hp1176 := hpB307
          obtain ⟨hq307, hp1177⟩ := hp1176
          obtain ⟨hr307, hp1178⟩ := hp1177
          exact x_out X (kX6 hG) (hout 307) hr307 hq307 hp1178
      have hp1179 := hp1171.2 c196_6
      by_cases c196_7 : (1 : Int32) = (7 : Int32)
      · have hp1180 := hp1179.1 c196_7
        refine x_up (pc' := 311) (fun _ _ _ _ _ L => lv_tableIn (off := 115) (tgt := 311) hx hb dX5_does_196 (by rw [c196_7]; decide) (by rw [c196_7]; decide) (by rw [c196_7]; rfl) (by decide)) ?_
        refine x_up (pc' := 312) (fun _ _ _ _ _ L => lv_aloadq_n hx hb dX5_does_311 rfl (lv_at L 3 rfl)) ?_
        refine x_up (pc' := 313) (fun _ _ _ _ _ L => lv_aload_n hx hb dX5_does_312 rfl (lv_at L 2 rfl)) ?_
        refine x_gi X (kX5 hG) 1 (by decide) q2137 (fun _ h => h) dX5_does_313 hp1180 (fun v904 hp1181 => ?_)
        refine x_pc (pc' := 316) rfl ?_
        refine x_up (pc' := 317) (fun _ _ _ _ _ L => lv_aload_n hx hb dX5_does_316 rfl (lv_at L 2 rfl)) ?_
        refine x_gi X (kX5 hG) 2 (by decide) q2138 (fun _ h => h) dX5_does_317 hp1181 (fun v905 hp1182 => ?_)
        refine x_pc (pc' := 320) rfl ?_
        obtain ⟨b906, rfl, hp1183⟩ := hp1182
        refine x_callVX (em := emI) (fun r st => .int r :: st) (fun _ _ => rfl) 2 X (kX2 hG) (fun σ' KK KX h => R_X2_shapes l hl G hG b906 v904 v905 σ' KK KX h) (lw_V q2547 q2548 q2549 q100 q2550) ⟨rfl, mdX2_shapes⟩ ⟨Nat.le_of_ble_eq_true rfl, Nat.le_of_ble_eq_true rfl⟩ rfl rfl (Nat.le_of_ble_eq_true rfl) dX5_does_320 hp1183.1 hp1183.2 (fun v907 σ908 hpA320 => ?_) (fun q909 σ910 hpB320 => ?_)
        · have hp1184 := hpA320
          refine x_pc (pc' := 323) rfl ?_
          refine x_vx ?_; exact x_iret X hr rfl dX5_does_323 hp1184
        · have hp1185 := hpB320
          obtain ⟨hq320, hp1186⟩ := hp1185
          obtain ⟨hr320, hp1187⟩ := hp1186
          exact x_out X (kX6 hG) (hout 320) hr320 hq320 hp1187
      have hp1188 := hp1179.2 c196_7
      refine x_up (pc' := 324) (fun _ _ _ _ _ L => lv_tableOut (tgt := 324) hx hb dX5_does_196 (x_tabOut 0 8 (by decide) (by decide) (by decide) (lt_s (lt_s (lt_s (lt_s (lt_s (lt_s (lt_s (lt_s lt_0 c196_0) c196_1) c196_2) c196_3) c196_4) c196_5) c196_6) c196_7)) (by decide)) ?_
      refine x_up (pc' := 325) (fun _ _ _ _ _ L => lv_aloadq_n hx hb dX5_does_324 rfl (lv_at L 3 rfl)) ?_
      refine x_up (pc' := 326) (fun _ _ _ _ _ L => lv_aload_n hx hb dX5_does_325 rfl (lv_at L 2 rfl)) ?_
      refine x_gi X (kX5 hG) 1 (by decide) q2137 (fun _ h => h) dX5_does_326 hp1188 (fun v911 hp1189 => ?_)
      refine x_pc (pc' := 329) rfl ?_
      obtain ⟨b912, rfl, hp1190⟩ := hp1189
      refine x_callVX (em := emI) (fun r st => .int r :: st) (fun _ _ => rfl) 1 X (kX2 hG) (fun σ' KK KX h => R_X2_rules l hl G hG b912 v911 σ' KK KX h) (lw_V q2551 q2552 q2553 q100 q2554) ⟨rfl, mdX2_rules⟩ ⟨Nat.le_of_ble_eq_true rfl, Nat.le_of_ble_eq_true rfl⟩ rfl rfl (Nat.le_of_ble_eq_true rfl) dX5_does_329 hp1190.1 hp1190.2 (fun v913 σ914 hpA329 => ?_) (fun q915 σ916 hpB329 => ?_)
      · have hp1191 := hpA329
        refine x_pc (pc' := 332) rfl ?_
        refine x_vx ?_; exact x_iret X hr rfl dX5_does_332 hp1191
      · have hp1192 := hpB329
        obtain ⟨hq329, hp1193⟩ := hp1192
        obtain ⟨hr329, hp1194⟩ := hp1193
        exact x_out X (kX6 hG) (hout 329) hr329 hq329 hp1194
  have hp1195 := hp1046.2 c11_7
  refine x_up (pc' := 195) (fun _ _ _ _ _ L => lv_lookup (off := 184) (tgt := 195) hx hb dX5_does_11 (by decide) (x_lookL (184) _ [((-1335157162 : Int32), (143 : Int)), ((110997 : Int32), (101 : Int)), ((3151468 : Int32), (115 : Int)), ((3496342 : Int32), (73 : Int)), ((97532676 : Int32), (129 : Int)), ((109399969 : Int32), (172 : Int)), ((110355062 : Int32), (157 : Int)), ((113399775 : Int32), (87 : Int))] (by simp [c11_0, c11_1, c11_2, c11_3, c11_4, c11_5, c11_6, c11_7])) (by decide)) ?_
  refine x_up (pc' := 196) (fun _ _ _ _ _ L => lv_iload_n hx hb dX5_does_195 rfl (lv_at L 0 rfl)) ?_
  by_cases c196_0 : (-1 : Int32) = (0 : Int32)
  · have hp1196 := hp1195.1 c196_0
    refine x_up (pc' := 244) (fun _ _ _ _ _ L => lv_tableIn (off := 48) (tgt := 244) hx hb dX5_does_196 (by rw [c196_0]; decide) (by rw [c196_0]; decide) (by rw [c196_0]; rfl) (by decide)) ?_
    refine x_up (pc' := 245) (fun _ _ _ _ _ L => lv_aloadq_n hx hb dX5_does_244 rfl (lv_at L 3 rfl)) ?_
    refine x_up (pc' := 246) (fun _ _ _ _ _ L => lv_aload_n hx hb dX5_does_245 rfl (lv_at L 2 rfl)) ?_
    refine x_gi X (kX5 hG) 1 (by decide) q2137 (fun _ h => h) dX5_does_246 hp1196 (fun v917 hp1197 => ?_)
    refine x_pc (pc' := 249) rfl ?_
    obtain ⟨b918, rfl, hp1198⟩ := hp1197
    refine x_callVX (em := emI) (fun r st => .int r :: st) (fun _ _ => rfl) 1 X (kX2 hG) (fun σ' KK KX h => R_X2_readsWord l hl G hG b918 v917 σ' KK KX h) (lw_V q2225 q2226 q2227 q100 q2228) ⟨rfl, mdX2_readsWord⟩ ⟨Nat.le_of_ble_eq_true rfl, Nat.le_of_ble_eq_true rfl⟩ rfl rfl (Nat.le_of_ble_eq_true rfl) dX5_does_249 hp1198.1 hp1198.2 (fun v919 σ920 hpA249 => ?_) (fun q921 σ922 hpB249 => ?_)
    · have hp1199 := hpA249
      refine x_pc (pc' := 252) rfl ?_
      refine x_vx ?_; exact x_iret X hr rfl dX5_does_252 hp1199
    · have hp1200 := hpB249
      obtain ⟨hq249, hp1201⟩ := hp1200
      obtain ⟨hr249, hp1202⟩ := hp1201
      exact x_out X (kX6 hG) (hout 249) hr249 hq249 hp1202
  have hp1203 := hp1195.2 c196_0
  by_cases c196_1 : (-1 : Int32) = (1 : Int32)
  · have hp1204 := hp1203.1 c196_1
    refine x_up (pc' := 253) (fun _ _ _ _ _ L => lv_tableIn (off := 57) (tgt := 253) hx hb dX5_does_196 (by rw [c196_1]; decide) (by rw [c196_1]; decide) (by rw [c196_1]; rfl) (by decide)) ?_
    refine x_up (pc' := 254) (fun _ _ _ _ _ L => lv_aloadq_n hx hb dX5_does_253 rfl (lv_at L 3 rfl)) ?_
    refine x_up (pc' := 255) (fun _ _ _ _ _ L => lv_aload_n hx hb dX5_does_254 rfl (lv_at L 2 rfl)) ?_
    refine x_gi X (kX5 hG) 1 (by decide) q2137 (fun _ h => h) dX5_does_255 hp1204 (fun v923 hp1205 => ?_)
    refine x_pc (pc' := 258) rfl ?_
    refine x_up (pc' := 259) (fun _ _ _ _ _ L => lv_aload_n hx hb dX5_does_258 rfl (lv_at L 2 rfl)) ?_
    refine x_gi X (kX5 hG) 2 (by decide) q2138 (fun _ h => h) dX5_does_259 hp1205 (fun v924 hp1206 => ?_)
    refine x_pc (pc' := 262) rfl ?_
    obtain ⟨b925, rfl, hp1207⟩ := hp1206
    refine x_callVX (em := emI) (fun r st => .int r :: st) (fun _ _ => rfl) 2 X (kX2 hG) (fun σ' KK KX h => R_X2_writesWord l hl G hG b925 v923 v924 σ' KK KX h) (lw_V q2497 q2498 q2499 q100 q2500) ⟨rfl, mdX2_writesWord⟩ ⟨Nat.le_of_ble_eq_true rfl, Nat.le_of_ble_eq_true rfl⟩ rfl rfl (Nat.le_of_ble_eq_true rfl) dX5_does_262 hp1207.1 hp1207.2 (fun v926 σ927 hpA262 => ?_) (fun q928 σ929 hpB262 => ?_)
    · have hp1208 := hpA262
      refine x_pc (pc' := 265) rfl ?_
      refine x_vx ?_; exact x_iret X hr rfl dX5_does_265 hp1208
    · have hp1209 := hpB262
      obtain ⟨hq262, hp1210⟩ := hp1209
      obtain ⟨hr262, hp1211⟩ := hp1210
      exact x_out X (kX6 hG) (hout 262) hr262 hq262 hp1211
  have hp1212 := hp1203.2 c196_1
  by_cases c196_2 : (-1 : Int32) = (2 : Int32)
  · have hp1213 := hp1212.1 c196_2
    refine x_up (pc' := 266) (fun _ _ _ _ _ L => lv_tableIn (off := 70) (tgt := 266) hx hb dX5_does_196 (by rw [c196_2]; decide) (by rw [c196_2]; decide) (by rw [c196_2]; rfl) (by decide)) ?_
    refine x_up (pc' := 267) (fun _ _ _ _ _ L => lv_aloadq_n hx hb dX5_does_266 rfl (lv_at L 3 rfl)) ?_
    refine x_up (pc' := 268) (fun _ _ _ _ _ L => lv_aload_n hx hb dX5_does_267 rfl (lv_at L 2 rfl)) ?_
    refine x_gi X (kX5 hG) 1 (by decide) q2137 (fun _ h => h) dX5_does_268 hp1213 (fun v930 hp1214 => ?_)
    refine x_pc (pc' := 271) rfl ?_
    obtain ⟨b931, rfl, hp1215⟩ := hp1214
    refine x_callVX (em := emI) (fun r st => .int r :: st) (fun _ _ => rfl) 1 X (kX2 hG) (fun σ' KK KX h => R_X2_pins l hl G hG b931 v930 σ' KK KX h) (lw_V q2509 q2510 q2511 q100 q2512) ⟨rfl, mdX2_pins⟩ ⟨Nat.le_of_ble_eq_true rfl, Nat.le_of_ble_eq_true rfl⟩ rfl rfl (Nat.le_of_ble_eq_true rfl) dX5_does_271 hp1215.1 hp1215.2 (fun v932 σ933 hpA271 => ?_) (fun q934 σ935 hpB271 => ?_)
    · have hp1216 := hpA271
      refine x_pc (pc' := 274) rfl ?_
      refine x_vx ?_; exact x_iret X hr rfl dX5_does_274 hp1216
    · have hp1217 := hpB271
      obtain ⟨hq271, hp1218⟩ := hp1217
      obtain ⟨hr271, hp1219⟩ := hp1218
      exact x_out X (kX6 hG) (hout 271) hr271 hq271 hp1219
  have hp1220 := hp1212.2 c196_2
  by_cases c196_3 : (-1 : Int32) = (3 : Int32)
  · have hp1221 := hp1220.1 c196_3
    refine x_up (pc' := 275) (fun _ _ _ _ _ L => lv_tableIn (off := 79) (tgt := 275) hx hb dX5_does_196 (by rw [c196_3]; decide) (by rw [c196_3]; decide) (by rw [c196_3]; rfl) (by decide)) ?_
    refine x_up (pc' := 276) (fun _ _ _ _ _ L => lv_aloadq_n hx hb dX5_does_275 rfl (lv_at L 3 rfl)) ?_
    refine x_up (pc' := 277) (fun _ _ _ _ _ L => lv_aload_n hx hb dX5_does_276 rfl (lv_at L 2 rfl)) ?_
    refine x_gi X (kX5 hG) 1 (by decide) q2137 (fun _ h => h) dX5_does_277 hp1221 (fun v936 hp1222 => ?_)
    refine x_pc (pc' := 280) rfl ?_
    obtain ⟨b937, rfl, hp1223⟩ := hp1222
    refine x_callVX (em := emI) (fun r st => .int r :: st) (fun _ _ => rfl) 1 X (kX2 hG) (fun σ' KK KX h => R_X2_frees l hl G hG b937 v936 σ' KK KX h) (lw_V q2522 q2523 q2524 q100 q2525) ⟨rfl, mdX2_frees⟩ ⟨Nat.le_of_ble_eq_true rfl, Nat.le_of_ble_eq_true rfl⟩ rfl rfl (Nat.le_of_ble_eq_true rfl) dX5_does_280 hp1223.1 hp1223.2 (fun v938 σ939 hpA280 => ?_) (fun q940 σ941 hpB280 => ?_)
    · have hp1224 := hpA280
      refine x_pc (pc' := 283) rfl ?_
      refine x_vx ?_; exact x_iret X hr rfl dX5_does_283 hp1224
    · have hp1225 := hpB280
      obtain ⟨hq280, hp1226⟩ := hp1225
      obtain ⟨hr280, hp1227⟩ := hp1226
      exact x_out X (kX6 hG) (hout 280) hr280 hq280 hp1227
  have hp1228 := hp1220.2 c196_3
  by_cases c196_4 : (-1 : Int32) = (4 : Int32)
  · have hp1229 := hp1228.1 c196_4
    refine x_up (pc' := 284) (fun _ _ _ _ _ L => lv_tableIn (off := 88) (tgt := 284) hx hb dX5_does_196 (by rw [c196_4]; decide) (by rw [c196_4]; decide) (by rw [c196_4]; rfl) (by decide)) ?_
    refine x_up (pc' := 285) (fun _ _ _ _ _ L => lv_aloadq_n hx hb dX5_does_284 rfl (lv_at L 3 rfl)) ?_
    obtain ⟨b942, rfl, hp1230⟩ := hp1229
    refine x_callVX (em := emI) (fun r st => .int r :: st) (fun _ _ => rfl) 0 X (kX2 hG) (fun σ' KK KX h => R_X2_flushes l hl G hG b942 σ' KK KX h) (lw_V q2526 q2527 q2528 q100 q2529) ⟨rfl, mdX2_flushes⟩ ⟨Nat.le_of_ble_eq_true rfl, Nat.le_of_ble_eq_true rfl⟩ rfl rfl (Nat.le_of_ble_eq_true rfl) dX5_does_285 hp1230.1 hp1230.2 (fun v943 σ944 hpA285 => ?_) (fun q945 σ946 hpB285 => ?_)
    · have hp1231 := hpA285
      refine x_pc (pc' := 288) rfl ?_
      refine x_vx ?_; exact x_iret X hr rfl dX5_does_288 hp1231
    · have hp1232 := hpB285
      obtain ⟨hq285, hp1233⟩ := hp1232
      obtain ⟨hr285, hp1234⟩ := hp1233
      exact x_out X (kX6 hG) (hout 285) hr285 hq285 hp1234
  have hp1235 := hp1228.2 c196_4
  by_cases c196_5 : (-1 : Int32) = (5 : Int32)
  · have hp1236 := hp1235.1 c196_5
    refine x_up (pc' := 289) (fun _ _ _ _ _ L => lv_tableIn (off := 93) (tgt := 289) hx hb dX5_does_196 (by rw [c196_5]; decide) (by rw [c196_5]; decide) (by rw [c196_5]; rfl) (by decide)) ?_
    refine x_up (pc' := 290) (fun _ _ _ _ _ L => lv_aloadq_n hx hb dX5_does_289 rfl (lv_at L 3 rfl)) ?_
    refine x_up (pc' := 291) (fun _ _ _ _ _ L => lv_aload_n hx hb dX5_does_290 rfl (lv_at L 2 rfl)) ?_
    refine x_gi X (kX5 hG) 1 (by decide) q2137 (fun _ h => h) dX5_does_291 hp1236 (fun v947 hp1237 => ?_)
    refine x_pc (pc' := 294) rfl ?_
    refine x_up (pc' := 295) (fun _ _ _ _ _ L => lv_aload_n hx hb dX5_does_294 rfl (lv_at L 2 rfl)) ?_
    refine x_gi X (kX5 hG) 2 (by decide) q2138 (fun _ h => h) dX5_does_295 hp1237 (fun v948 hp1238 => ?_)
    refine x_pc (pc' := 298) rfl ?_
    obtain ⟨b949, rfl, hp1239⟩ := hp1238
    refine x_callVX (em := emI) (fun r st => .int r :: st) (fun _ _ => rfl) 2 X (kX2 hG) (fun σ' KK KX h => R_X2_deviceWrites l hl G hG b949 v947 v948 σ' KK KX h) (lw_V q2535 q2536 q2537 q100 q2538) ⟨rfl, mdX2_deviceWrites⟩ ⟨Nat.le_of_ble_eq_true rfl, Nat.le_of_ble_eq_true rfl⟩ rfl rfl (Nat.le_of_ble_eq_true rfl) dX5_does_298 hp1239.1 hp1239.2 (fun v950 σ951 hpA298 => ?_) (fun q952 σ953 hpB298 => ?_)
    · have hp1240 := hpA298
      refine x_pc (pc' := 301) rfl ?_
      refine x_vx ?_; exact x_iret X hr rfl dX5_does_301 hp1240
    · have hp1241 := hpB298
      obtain ⟨hq298, hp1242⟩ := hp1241
      obtain ⟨hr298, hp1243⟩ := hp1242
      exact x_out X (kX6 hG) (hout 298) hr298 hq298 hp1243
  have hp1244 := hp1235.2 c196_5
  by_cases c196_6 : (-1 : Int32) = (6 : Int32)
  · have hp1245 := hp1244.1 c196_6
    refine x_up (pc' := 302) (fun _ _ _ _ _ L => lv_tableIn (off := 106) (tgt := 302) hx hb dX5_does_196 (by rw [c196_6]; decide) (by rw [c196_6]; decide) (by rw [c196_6]; rfl) (by decide)) ?_
    refine x_up (pc' := 303) (fun _ _ _ _ _ L => lv_aloadq_n hx hb dX5_does_302 rfl (lv_at L 3 rfl)) ?_
    refine x_up (pc' := 304) (fun _ _ _ _ _ L => lv_aload_n hx hb dX5_does_303 rfl (lv_at L 2 rfl)) ?_
    refine x_gi X (kX5 hG) 1 (by decide) q2137 (fun _ h => h) dX5_does_304 hp1245 (fun v954 hp1246 => ?_)
    refine x_pc (pc' := 307) rfl ?_
    obtain ⟨b955, rfl, hp1247⟩ := hp1246
    refine x_callVX (em := emI) (fun r st => .int r :: st) (fun _ _ => rfl) 1 X (kX2 hG) (fun σ' KK KX h => R_X2_waits l hl G hG b955 v954 σ' KK KX h) (lw_V q2543 q2544 q2545 q100 q2546) ⟨rfl, mdX2_waits⟩ ⟨Nat.le_of_ble_eq_true rfl, Nat.le_of_ble_eq_true rfl⟩ rfl rfl (Nat.le_of_ble_eq_true rfl) dX5_does_307 hp1247.1 hp1247.2 (fun v956 σ957 hpA307 => ?_) (fun q958 σ959 hpB307 => ?_)
    · have hp1248 := hpA307
      refine x_pc (pc' := 310) rfl ?_
      refine x_vx ?_; exact x_iret X hr rfl dX5_does_310 hp1248
    · have hp1249 := hpB307
      obtain ⟨hq307, hp1250⟩ := hp1249
      obtain ⟨hr307, hp1251⟩ := hp1250
      exact x_out X (kX6 hG) (hout 307) hr307 hq307 hp1251
  have hp1252 := hp1244.2 c196_6
  by_cases c196_7 : (-1 : Int32) = (7 : Int32)
  · have hp1253 := hp1252.1 c196_7
    refine x_up (pc' := 311) (fun _ _ _ _ _ L => lv_tableIn (off := 115) (tgt := 311) hx hb dX5_does_196 (by rw [c196_7]; decide) (by rw [c196_7]; decide) (by rw [c196_7]; rfl) (by decide)) ?_
    refine x_up (pc' := 312) (fun _ _ _ _ _ L => lv_aloadq_n hx hb dX5_does_311 rfl (lv_at L 3 rfl)) ?_
    refine x_up (pc' := 313) (fun _ _ _ _ _ L => lv_aload_n hx hb dX5_does_312 rfl (lv_at L 2 rfl)) ?_
    refine x_gi X (kX5 hG) 1 (by decide) q2137 (fun _ h => h) dX5_does_313 hp1253 (fun v960 hp1254 => ?_)
    refine x_pc (pc' := 316) rfl ?_
    refine x_up (pc' := 317) (fun _ _ _ _ _ L => lv_aload_n hx hb dX5_does_316 rfl (lv_at L 2 rfl)) ?_
    refine x_gi X (kX5 hG) 2 (by decide) q2138 (fun _ h => h) dX5_does_317 hp1254 (fun v961 hp1255 => ?_)
    refine x_pc (pc' := 320) rfl ?_
    obtain ⟨b962, rfl, hp1256⟩ := hp1255
    refine x_callVX (em := emI) (fun r st => .int r :: st) (fun _ _ => rfl) 2 X (kX2 hG) (fun σ' KK KX h => R_X2_shapes l hl G hG b962 v960 v961 σ' KK KX h) (lw_V q2547 q2548 q2549 q100 q2550) ⟨rfl, mdX2_shapes⟩ ⟨Nat.le_of_ble_eq_true rfl, Nat.le_of_ble_eq_true rfl⟩ rfl rfl (Nat.le_of_ble_eq_true rfl) dX5_does_320 hp1256.1 hp1256.2 (fun v963 σ964 hpA320 => ?_) (fun q965 σ966 hpB320 => ?_)
    · have hp1257 := hpA320
      refine x_pc (pc' := 323) rfl ?_
      refine x_vx ?_; exact x_iret X hr rfl dX5_does_323 hp1257
    · have hp1258 := hpB320
      obtain ⟨hq320, hp1259⟩ := hp1258
      obtain ⟨hr320, hp1260⟩ := hp1259
      exact x_out X (kX6 hG) (hout 320) hr320 hq320 hp1260
  have hp1261 := hp1252.2 c196_7
  refine x_up (pc' := 324) (fun _ _ _ _ _ L => lv_tableOut (tgt := 324) hx hb dX5_does_196 (x_tabOut 0 8 (by decide) (by decide) (by decide) (lt_s (lt_s (lt_s (lt_s (lt_s (lt_s (lt_s (lt_s lt_0 c196_0) c196_1) c196_2) c196_3) c196_4) c196_5) c196_6) c196_7)) (by decide)) ?_
  refine x_up (pc' := 325) (fun _ _ _ _ _ L => lv_aloadq_n hx hb dX5_does_324 rfl (lv_at L 3 rfl)) ?_
  refine x_up (pc' := 326) (fun _ _ _ _ _ L => lv_aload_n hx hb dX5_does_325 rfl (lv_at L 2 rfl)) ?_
  refine x_gi X (kX5 hG) 1 (by decide) q2137 (fun _ h => h) dX5_does_326 hp1261 (fun v967 hp1262 => ?_)
  refine x_pc (pc' := 329) rfl ?_
  obtain ⟨b968, rfl, hp1263⟩ := hp1262
  refine x_callVX (em := emI) (fun r st => .int r :: st) (fun _ _ => rfl) 1 X (kX2 hG) (fun σ' KK KX h => R_X2_rules l hl G hG b968 v967 σ' KK KX h) (lw_V q2551 q2552 q2553 q100 q2554) ⟨rfl, mdX2_rules⟩ ⟨Nat.le_of_ble_eq_true rfl, Nat.le_of_ble_eq_true rfl⟩ rfl rfl (Nat.le_of_ble_eq_true rfl) dX5_does_329 hp1263.1 hp1263.2 (fun v969 σ970 hpA329 => ?_) (fun q971 σ972 hpB329 => ?_)
  · have hp1264 := hpA329
    refine x_pc (pc' := 332) rfl ?_
    refine x_vx ?_; exact x_iret X hr rfl dX5_does_332 hp1264
  · have hp1265 := hpB329
    obtain ⟨hq329, hp1266⟩ := hp1265
    obtain ⟨hr329, hp1267⟩ := hp1266
    exact x_out X (kX6 hG) (hout 329) hr329 hq329 hp1267
-- X1_done
def P_X1_done (κ : Nat → Nat) (a0 : Nat) (x1 : Option Nat) (σ : xS) (K : Int32 → xH → Prop) (KX : Nat → xH → Prop) : Prop :=
  xnew κ σ 1 20 [va_rf none, va_rf none, va_rf none, va_rf none, va_rf none, va_rf none, va_rf none, va_rf none, .int 0, .int 0, .int 0, .int 0, .int 0, .int 0, .int 0, .int 0, .int 0, .int 0, .int 0, .int 0] fun q1 σ2 => xgq σ2 a0 0 0 fun v3 => xcall (fun τ L => P_X2_init_2 κ q1 v3 τ L) σ2 fun _ σ4 => xnn x1 fun b5 => xrc σ4 b5 11 ∧ xcallX (fun τ L LX => P_X5_does κ b5 (some q1) τ L LX) σ4 (fun v6 σ7 => xrc σ7 a0 0 ∧ xcall (fun τ L => P_X1_remember κ a0 (some q1) τ L) σ7 fun _ σ10 => K v6 σ10.1) (fun q8 σ9 => κ 0 ≤ q8 ∧ ((xrc σ9 q8 26 ∧ (xpq κ σ9 a0 0 6 (some q8) fun σ11 => xmak κ σ11 20 fun q12 σ13 => κ 0 ≤ q12 ∧ xrc σ13 q12 20 ∧ KX q12 σ13.1))))
theorem mdX1_done : yX1_done.cls ≠ "java/lang/invoke/MethodHandle" ∧ yX1_done.cls ≠ "java/lang/invoke/VarHandle" ∧ (parseMethodDescriptor yX1_done.desc).map (fun d => d.parameters.length) = some 1 := by decide +kernel
set_option maxHeartbeats 4000000 in
set_option maxRecDepth 100000 in
theorem R_X1_done (l : Launch) (hl : l.stackTraces = false) (G : xG) (hG : G.1.2 = x_cl) (a0 : Nat) (x1 : Option Nat) (σ : xS) (K : Int32 → xH → Prop) (KX : Nat → xH → Prop) (hp : P_X1_done G.2 a0 x1 σ K KX) : xMH l yX1_done cX1_done 4 (Option.some Jvm.ClassFile.FieldType.int) [(12, 24, 25, 19)] 16 453 G [(.ref a0), va_rf x1] σ (xlift emI K) KX := by
  refine x_entryH (by decide) (by simp [lg_sl, x_catq, x_cati, x_catr, x_catn]) ?_
  intro p e s m args below meth c X hr hin hE
  have X : xX p s m args meth c G cX1_done 4 RX1 := X
  have hx := X.1
  have hb := X.2.1
  have hts := X.2.2.2.2.1
  have hown := X.2.2.2.1
  unfold P_X1_done at hp
  refine x_same (lo' := [(0, .ref a0), (1, va_rf x1)]) (by simp [lv_args, x_catq, x_cati, x_catr, x_catn]) ?_
  refine x_new X (kX2 hG) q172 q173 q100 (fs := [va_rf none, va_rf none, va_rf none, va_rf none, va_rf none, va_rf none, va_rf none, va_rf none, .int 0, .int 0, .int 0, .int 0, .int 0, .int 0, .int 0, .int 0, .int 0, .int 0, .int 0, .int 0]) x_dflt_X2 dX1_done_0 hp (fun q1 σ2 hp1 => ?_)
  refine x_pc (pc' := 3) rfl ?_
  refine x_up (pc' := 4) (fun _ _ _ _ _ L => lv_dup hx hb dX1_done_3 rfl) ?_
  refine x_up (pc' := 5) (fun _ _ _ _ _ L => lv_aload_n hx hb dX1_done_4 rfl (lv_at L 0 rfl)) ?_
  refine x_gq X (kX1 hG) 0 (by decide) q589 (fun _ h => h) dX1_done_5 hp1 (fun v3 hp2 => ?_)
  refine x_pc (pc' := 8) rfl ?_
  refine x_callI 1 X (fun σ' KK h => R_X2_init_2 l hl G hG q1 v3 σ' KK h) (lw_meth q617) q100 q615 q616 rfl mdX2_init_2 ⟨Nat.le_of_ble_eq_true rfl, Nat.le_of_ble_eq_true rfl⟩ rfl rfl (Nat.le_of_ble_eq_true rfl) dX1_done_8 hp2 (fun σ4 hp3 => ?_)
  refine x_pc (pc' := 11) rfl ?_
  refine x_st (pc' := 12) ([(2, .ref q1), (0, .ref a0), (1, va_rf x1)]) rfl (by simp [x_catq, x_cati, x_catr, x_catn]) (fun _ _ _ _ _ L => lv_astore_n hx hb dX1_done_11 rfl L (by decide) rfl) ?_
  refine x_up (pc' := 13) (fun _ _ _ _ _ L => lv_aloadq_n hx hb dX1_done_12 rfl (lv_at L 2 rfl)) ?_
  refine x_up (pc' := 14) (fun _ _ _ _ _ L => lv_aload_n hx hb dX1_done_13 rfl (lv_at L 0 rfl)) ?_
  obtain ⟨b5, rfl, hp4⟩ := hp3
  refine x_callVX (em := emI) (fun r st => .int r :: st) (fun _ _ => rfl) 1 X (kX5 hG) (fun σ' KK KX h => R_X5_does l hl G hG b5 (some q1) σ' KK KX h) (lw_V q2151 q2152 q2153 q120 q2154) ⟨rfl, mdX5_does⟩ ⟨Nat.le_of_ble_eq_true rfl, Nat.le_of_ble_eq_true rfl⟩ rfl rfl (Nat.le_of_ble_eq_true rfl) dX1_done_14 hp4.1 hp4.2 (fun v6 σ7 hpA14 => ?_) (fun q8 σ9 hpB14 => ?_)
  · have hp5 := hpA14
    refine x_pc (pc' := 17) rfl ?_
    refine x_upL (pc' := 18) (lo' := [(3, .int v6), (2, .ref q1), (0, .ref a0), (1, .ref b5)]) (fun _ _ _ _ _ L => lv_istore_n hx hb dX1_done_17 rfl L (by decide) rfl) ?_
    refine x_up (pc' := 19) (fun _ _ _ _ _ L => lv_aload_n hx hb dX1_done_18 rfl (lv_at L 2 rfl)) ?_
    refine x_up (pc' := 20) (fun _ _ _ _ _ L => lv_aload_n hx hb dX1_done_19 rfl (lv_at L 1 rfl)) ?_
    refine x_callV (em := emV) (fun r st => st) (fun _ _ => rfl) 1 X (kX1 hG) (fun σ' KK h => R_X1_remember l hl G hG a0 (some q1) σ' KK h) (lw_V q1951 q1953 qs21 q99 q1954) ⟨rfl, mdX1_remember⟩ ⟨Nat.le_of_ble_eq_true rfl, Nat.le_of_ble_eq_true rfl⟩ rfl rfl (Nat.le_of_ble_eq_true rfl) dX1_done_20 hp5.1 hp5.2 (fun _ σ10 hp6 => ?_)
    refine x_pc (pc' := 23) rfl ?_
    refine x_up (pc' := 24) (fun _ _ _ _ _ L => lv_iload_n hx hb dX1_done_23 rfl (lv_at L 0 rfl)) ?_
    refine x_vx ?_; exact x_iret X hr rfl dX1_done_24 hp6
  · have hp7 := hpB14
    obtain ⟨hq14, hp8⟩ := hp7
    obtain ⟨hr14, hp9⟩ := hp8
    refine x_catch X (kX6 hG) [] ({ startPc := 12, endPc := 24, handlerPc := 25, catchType := 19 } : ExceptionTableEntry) [] (hE.trans rfl) (fun _ h => nomatch h) rfl (by decide) q2150 q2242 hr14 hq14 ?_
    refine x_pc (pc' := 25) rfl ?_
    refine x_upL (pc' := 26) (lo' := [(3, .ref q8), (2, .ref q1), (0, .ref a0), (1, .ref b5)]) (fun _ _ _ _ _ L => lv_astore_n hx hb dX1_done_25 rfl L (by decide) rfl) ?_
    refine x_up (pc' := 27) (fun _ _ _ _ _ L => lv_aload_n hx hb dX1_done_26 rfl (lv_at L 2 rfl)) ?_
    refine x_up (pc' := 28) (fun _ _ _ _ _ L => lv_aload_n hx hb dX1_done_27 rfl (lv_at L 0 rfl)) ?_
    refine x_pq X (kX1 hG) 6 (by decide) q595 (fun _ h => h) rfl (some q8) (x_nar _ (by decide)) (x_fit _ (by decide)) dX1_done_28 hp9 (fun σ11 hp10 => ?_)
    refine x_pc (pc' := 31) rfl ?_
    refine x_make0 (names := ["java/lang/RuntimeException", "java/lang/Exception"]) X hl (kJ32 hG) (by decide +kernel) (by decide +kernel) q2555 q137 xat_X1_114 xal_X1_114 (by decide +kernel) dX1_done_31 dX1_done_34 dX1_done_35 (Nat.le_of_ble_eq_true rfl) (Nat.le_of_ble_eq_true rfl) (Nat.le_of_ble_eq_true rfl) hp10 (fun q12 σ13 hp11 => ?_)
    refine x_pc (pc' := 38) rfl ?_
    obtain ⟨hq38, hr38, hp12⟩ := hp11
    refine x_athrow X dX1_done_38 ?_
    exact x_outP X (kJ32 hG) (by rw [hE]; exact (List.forall_mem_cons.mpr ⟨(Or.inl rfl), (fun _ h => nomatch h)⟩)) hr38 hq38 hp12
-- X1_read
def P_X1_read (κ : Nat → Nat) (a0 : Nat) (x1 : Int32) (σ : xS) (K : Int32 → xH → Prop) (KX : Nat → xH → Prop) : Prop :=
  xnew κ σ 11 3 [va_rf none, .int 0, .int 0] fun q1 σ2 => xcall (fun τ L => P_X5_init κ q1 (some (κ 11)) x1 (0 : Int32) τ L) σ2 fun _ σ3 => xrc σ3 a0 0 ∧ xcallX (fun τ L LX => P_X1_done κ a0 (some q1) τ L LX) σ3 (fun v4 σ5 => K v4 σ5.1) (fun q6 σ7 => κ 0 ≤ q6 ∧ ((xrc σ7 q6 20 ∧ (KX q6 σ7.1))))
theorem mdX1_read : yX1_read.cls ≠ "java/lang/invoke/MethodHandle" ∧ yX1_read.cls ≠ "java/lang/invoke/VarHandle" ∧ (parseMethodDescriptor yX1_read.desc).map (fun d => d.parameters.length) = some 1 := by decide +kernel
set_option maxHeartbeats 4000000 in
set_option maxRecDepth 100000 in
theorem R_X1_read (l : Launch) (hl : l.stackTraces = false) (G : xG) (hG : G.1.2 = x_cl) (a0 : Nat) (x1 : Int32) (σ : xS) (K : Int32 → xH → Prop) (KX : Nat → xH → Prop) (hp : P_X1_read G.2 a0 x1 σ K KX) : xMX l yX1_read cX1_read 2 (Option.some Jvm.ClassFile.FieldType.int) 17 476 G [(.ref a0), .int x1] σ (xlift emI K) KX := by
  refine x_entryX (by decide) (Nat.le_of_ble_eq_true rfl) ?_
  intro p e s m args below meth c X hr hin hno
  have X : xX p s m args meth c G cX1_read 2 RX1 := X
  have hx := X.1
  have hb := X.2.1
  have hts := X.2.2.2.2.1
  have hown := X.2.2.2.1
  have hout : ∀ pc, ∀ x ∈ c.exceptionTable.toList, covers x pc = false := fun _ x hx => (hno x hx).elim
  unfold P_X1_read at hp
  refine x_same (lo' := [(0, .ref a0), (1, .int x1)]) rfl ?_
  refine x_up (pc' := 1) (fun _ _ _ _ _ L => lv_aload_n hx hb dX1_read_0 rfl (lv_at L 0 rfl)) ?_
  refine x_new X (kX5 hG) q2129 q2130 q120 (fs := [va_rf none, .int 0, .int 0]) x_dflt_X5 dX1_read_1 hp (fun q1 σ2 hp1 => ?_)
  refine x_pc (pc' := 4) rfl ?_
  refine x_up (pc' := 5) (fun _ _ _ _ _ L => lv_dup hx hb dX1_read_4 rfl) ?_
  refine x_ldcS (tx := "read") (q := G.2 11) X (by simp [x_ss, RX1]) dX1_read_5 ?_
  refine x_pc (pc' := 7) rfl ?_
  refine x_up (pc' := 8) (fun _ _ _ _ _ L => lv_iload_n hx hb dX1_read_7 rfl (lv_at L 1 rfl)) ?_
  refine x_up (pc' := 9) (fun _ _ _ _ _ L => lv_iconst (v := (0 : Int32)) hx hb dX1_read_8 (by decide)) ?_
  refine x_callI 3 X (fun σ' KK h => R_X5_init l hl G hG q1 (some (G.2 11)) x1 (0 : Int32) σ' KK h) (lw_meth q2134) q120 q2132 q2133 rfl mdX5_init ⟨Nat.le_of_ble_eq_true rfl, Nat.le_of_ble_eq_true rfl⟩ rfl rfl (Nat.le_of_ble_eq_true rfl) dX1_read_9 hp1 (fun σ3 hp2 => ?_)
  refine x_pc (pc' := 12) rfl ?_
  refine x_callVH (em := emI) (fun r st => .int r :: st) (fun _ _ => rfl) 1 X (kX1 hG) (fun σ' KK KX h => R_X1_done l hl G hG a0 (some q1) σ' KK KX h) (lw_VW q2146 q2148 qs26 q99 q2149) ⟨rfl, mdX1_done⟩ ⟨Nat.le_of_ble_eq_true rfl, Nat.le_of_ble_eq_true rfl⟩ rfl rfl (Nat.le_of_ble_eq_true rfl) dX1_read_12 hp2.1 hp2.2 (fun v4 σ5 hpA12 => ?_) (fun q6 σ7 hpB12 => ?_)
  · have hp3 := hpA12
    refine x_pc (pc' := 15) rfl ?_
    refine x_vx ?_; exact x_iret X hr rfl dX1_read_15 hp3
  · have hp4 := hpB12
    obtain ⟨hq12, hp5⟩ := hp4
    obtain ⟨hr12, hp6⟩ := hp5
    exact x_out X (kJ32 hG) (hout 12) hr12 hq12 hp6
-- X1_write
def P_X1_write (κ : Nat → Nat) (a0 : Nat) (x1 : Int32) (x2 : Int32) (σ : xS) (K : Int32 → xH → Prop) (KX : Nat → xH → Prop) : Prop :=
  xnew κ σ 11 3 [va_rf none, .int 0, .int 0] fun q1 σ2 => xcall (fun τ L => P_X5_init κ q1 (some (κ 12)) x1 x2 τ L) σ2 fun _ σ3 => xrc σ3 a0 0 ∧ xcallX (fun τ L LX => P_X1_done κ a0 (some q1) τ L LX) σ3 (fun v4 σ5 => K v4 σ5.1) (fun q6 σ7 => κ 0 ≤ q6 ∧ ((xrc σ7 q6 20 ∧ (KX q6 σ7.1))))
theorem mdX1_write : yX1_write.cls ≠ "java/lang/invoke/MethodHandle" ∧ yX1_write.cls ≠ "java/lang/invoke/VarHandle" ∧ (parseMethodDescriptor yX1_write.desc).map (fun d => d.parameters.length) = some 2 := by decide +kernel
set_option maxHeartbeats 4000000 in
set_option maxRecDepth 100000 in
theorem R_X1_write (l : Launch) (hl : l.stackTraces = false) (G : xG) (hG : G.1.2 = x_cl) (a0 : Nat) (x1 : Int32) (x2 : Int32) (σ : xS) (K : Int32 → xH → Prop) (KX : Nat → xH → Prop) (hp : P_X1_write G.2 a0 x1 x2 σ K KX) : xMX l yX1_write cX1_write 3 (Option.some Jvm.ClassFile.FieldType.int) 17 476 G [(.ref a0), .int x1, .int x2] σ (xlift emI K) KX := by
  refine x_entryX (by decide) (Nat.le_of_ble_eq_true rfl) ?_
  intro p e s m args below meth c X hr hin hno
  have X : xX p s m args meth c G cX1_write 3 RX1 := X
  have hx := X.1
  have hb := X.2.1
  have hts := X.2.2.2.2.1
  have hown := X.2.2.2.1
  have hout : ∀ pc, ∀ x ∈ c.exceptionTable.toList, covers x pc = false := fun _ x hx => (hno x hx).elim
  unfold P_X1_write at hp
  refine x_same (lo' := [(0, .ref a0), (1, .int x1), (2, .int x2)]) rfl ?_
  refine x_up (pc' := 1) (fun _ _ _ _ _ L => lv_aload_n hx hb dX1_write_0 rfl (lv_at L 0 rfl)) ?_
  refine x_new X (kX5 hG) q2129 q2130 q120 (fs := [va_rf none, .int 0, .int 0]) x_dflt_X5 dX1_write_1 hp (fun q1 σ2 hp1 => ?_)
  refine x_pc (pc' := 4) rfl ?_
  refine x_up (pc' := 5) (fun _ _ _ _ _ L => lv_dup hx hb dX1_write_4 rfl) ?_
  refine x_ldcS (tx := "write") (q := G.2 12) X (by simp [x_ss, RX1]) dX1_write_5 ?_
  refine x_pc (pc' := 7) rfl ?_
  refine x_up (pc' := 8) (fun _ _ _ _ _ L => lv_iload_n hx hb dX1_write_7 rfl (lv_at L 1 rfl)) ?_
  refine x_up (pc' := 9) (fun _ _ _ _ _ L => lv_iload_n hx hb dX1_write_8 rfl (lv_at L 2 rfl)) ?_
  refine x_callI 3 X (fun σ' KK h => R_X5_init l hl G hG q1 (some (G.2 12)) x1 x2 σ' KK h) (lw_meth q2134) q120 q2132 q2133 rfl mdX5_init ⟨Nat.le_of_ble_eq_true rfl, Nat.le_of_ble_eq_true rfl⟩ rfl rfl (Nat.le_of_ble_eq_true rfl) dX1_write_9 hp1 (fun σ3 hp2 => ?_)
  refine x_pc (pc' := 12) rfl ?_
  refine x_callVH (em := emI) (fun r st => .int r :: st) (fun _ _ => rfl) 1 X (kX1 hG) (fun σ' KK KX h => R_X1_done l hl G hG a0 (some q1) σ' KK KX h) (lw_VW q2146 q2148 qs26 q99 q2149) ⟨rfl, mdX1_done⟩ ⟨Nat.le_of_ble_eq_true rfl, Nat.le_of_ble_eq_true rfl⟩ rfl rfl (Nat.le_of_ble_eq_true rfl) dX1_write_12 hp2.1 hp2.2 (fun v4 σ5 hpA12 => ?_) (fun q6 σ7 hpB12 => ?_)
  · have hp3 := hpA12
    refine x_pc (pc' := 15) rfl ?_
    refine x_vx ?_; exact x_iret X hr rfl dX1_write_15 hp3
  · have hp4 := hpB12
    obtain ⟨hq12, hp5⟩ := hp4
    obtain ⟨hr12, hp6⟩ := hp5
    exact x_out X (kJ32 hG) (hout 12) hr12 hq12 hp6
-- X1_device
def P_X1_device (κ : Nat → Nat) (a0 : Nat) (x1 : Int32) (x2 : Int32) (σ : xS) (K : Int32 → xH → Prop) (KX : Nat → xH → Prop) : Prop :=
  xnew κ σ 11 3 [va_rf none, .int 0, .int 0] fun q1 σ2 => xcall (fun τ L => P_X5_init κ q1 (some (κ 16)) x1 x2 τ L) σ2 fun _ σ3 => xrc σ3 a0 0 ∧ xcallX (fun τ L LX => P_X1_done κ a0 (some q1) τ L LX) σ3 (fun v4 σ5 => K v4 σ5.1) (fun q6 σ7 => κ 0 ≤ q6 ∧ ((xrc σ7 q6 20 ∧ (KX q6 σ7.1))))
theorem mdX1_device : yX1_device.cls ≠ "java/lang/invoke/MethodHandle" ∧ yX1_device.cls ≠ "java/lang/invoke/VarHandle" ∧ (parseMethodDescriptor yX1_device.desc).map (fun d => d.parameters.length) = some 2 := by decide +kernel
set_option maxHeartbeats 4000000 in
set_option maxRecDepth 100000 in
theorem R_X1_device (l : Launch) (hl : l.stackTraces = false) (G : xG) (hG : G.1.2 = x_cl) (a0 : Nat) (x1 : Int32) (x2 : Int32) (σ : xS) (K : Int32 → xH → Prop) (KX : Nat → xH → Prop) (hp : P_X1_device G.2 a0 x1 x2 σ K KX) : xMX l yX1_device cX1_device 3 (Option.some Jvm.ClassFile.FieldType.int) 17 476 G [(.ref a0), .int x1, .int x2] σ (xlift emI K) KX := by
  refine x_entryX (by decide) (Nat.le_of_ble_eq_true rfl) ?_
  intro p e s m args below meth c X hr hin hno
  have X : xX p s m args meth c G cX1_device 3 RX1 := X
  have hx := X.1
  have hb := X.2.1
  have hts := X.2.2.2.2.1
  have hown := X.2.2.2.1
  have hout : ∀ pc, ∀ x ∈ c.exceptionTable.toList, covers x pc = false := fun _ x hx => (hno x hx).elim
  unfold P_X1_device at hp
  refine x_same (lo' := [(0, .ref a0), (1, .int x1), (2, .int x2)]) rfl ?_
  refine x_up (pc' := 1) (fun _ _ _ _ _ L => lv_aload_n hx hb dX1_device_0 rfl (lv_at L 0 rfl)) ?_
  refine x_new X (kX5 hG) q2129 q2130 q120 (fs := [va_rf none, .int 0, .int 0]) x_dflt_X5 dX1_device_1 hp (fun q1 σ2 hp1 => ?_)
  refine x_pc (pc' := 4) rfl ?_
  refine x_up (pc' := 5) (fun _ _ _ _ _ L => lv_dup hx hb dX1_device_4 rfl) ?_
  refine x_ldcS (tx := "device") (q := G.2 16) X (by simp [x_ss, RX1]) dX1_device_5 ?_
  refine x_pc (pc' := 7) rfl ?_
  refine x_up (pc' := 8) (fun _ _ _ _ _ L => lv_iload_n hx hb dX1_device_7 rfl (lv_at L 1 rfl)) ?_
  refine x_up (pc' := 9) (fun _ _ _ _ _ L => lv_iload_n hx hb dX1_device_8 rfl (lv_at L 2 rfl)) ?_
  refine x_callI 3 X (fun σ' KK h => R_X5_init l hl G hG q1 (some (G.2 16)) x1 x2 σ' KK h) (lw_meth q2134) q120 q2132 q2133 rfl mdX5_init ⟨Nat.le_of_ble_eq_true rfl, Nat.le_of_ble_eq_true rfl⟩ rfl rfl (Nat.le_of_ble_eq_true rfl) dX1_device_9 hp1 (fun σ3 hp2 => ?_)
  refine x_pc (pc' := 12) rfl ?_
  refine x_callVH (em := emI) (fun r st => .int r :: st) (fun _ _ => rfl) 1 X (kX1 hG) (fun σ' KK KX h => R_X1_done l hl G hG a0 (some q1) σ' KK KX h) (lw_VW q2146 q2148 qs26 q99 q2149) ⟨rfl, mdX1_done⟩ ⟨Nat.le_of_ble_eq_true rfl, Nat.le_of_ble_eq_true rfl⟩ rfl rfl (Nat.le_of_ble_eq_true rfl) dX1_device_12 hp2.1 hp2.2 (fun v4 σ5 hpA12 => ?_) (fun q6 σ7 hpB12 => ?_)
  · have hp3 := hpA12
    refine x_pc (pc' := 15) rfl ?_
    refine x_vx ?_; exact x_iret X hr rfl dX1_device_15 hp3
  · have hp4 := hpB12
    obtain ⟨hq12, hp5⟩ := hp4
    obtain ⟨hr12, hp6⟩ := hp5
    exact x_out X (kJ32 hG) (hout 12) hr12 hq12 hp6
-- X1_pass
def P_X1_pass (κ : Nat → Nat) (a0 : Nat) (x1 : Int32) (σ : xS) (K : Int32 → xH → Prop) (KX : Nat → xH → Prop) : Prop :=
  xnew κ σ 11 3 [va_rf none, .int 0, .int 0] fun q1 σ2 => xcall (fun τ L => P_X5_init κ q1 (some (κ 17)) x1 (0 : Int32) τ L) σ2 fun _ σ3 => xrc σ3 a0 0 ∧ xcallX (fun τ L LX => P_X1_done κ a0 (some q1) τ L LX) σ3 (fun v4 σ5 => K v4 σ5.1) (fun q6 σ7 => κ 0 ≤ q6 ∧ ((xrc σ7 q6 20 ∧ (KX q6 σ7.1))))
theorem mdX1_pass : yX1_pass.cls ≠ "java/lang/invoke/MethodHandle" ∧ yX1_pass.cls ≠ "java/lang/invoke/VarHandle" ∧ (parseMethodDescriptor yX1_pass.desc).map (fun d => d.parameters.length) = some 1 := by decide +kernel
set_option maxHeartbeats 4000000 in
set_option maxRecDepth 100000 in
theorem R_X1_pass (l : Launch) (hl : l.stackTraces = false) (G : xG) (hG : G.1.2 = x_cl) (a0 : Nat) (x1 : Int32) (σ : xS) (K : Int32 → xH → Prop) (KX : Nat → xH → Prop) (hp : P_X1_pass G.2 a0 x1 σ K KX) : xMX l yX1_pass cX1_pass 2 (Option.some Jvm.ClassFile.FieldType.int) 17 476 G [(.ref a0), .int x1] σ (xlift emI K) KX := by
  refine x_entryX (by decide) (Nat.le_of_ble_eq_true rfl) ?_
  intro p e s m args below meth c X hr hin hno
  have X : xX p s m args meth c G cX1_pass 2 RX1 := X
  have hx := X.1
  have hb := X.2.1
  have hts := X.2.2.2.2.1
  have hown := X.2.2.2.1
  have hout : ∀ pc, ∀ x ∈ c.exceptionTable.toList, covers x pc = false := fun _ x hx => (hno x hx).elim
  unfold P_X1_pass at hp
  refine x_same (lo' := [(0, .ref a0), (1, .int x1)]) rfl ?_
  refine x_up (pc' := 1) (fun _ _ _ _ _ L => lv_aload_n hx hb dX1_pass_0 rfl (lv_at L 0 rfl)) ?_
  refine x_new X (kX5 hG) q2129 q2130 q120 (fs := [va_rf none, .int 0, .int 0]) x_dflt_X5 dX1_pass_1 hp (fun q1 σ2 hp1 => ?_)
  refine x_pc (pc' := 4) rfl ?_
  refine x_up (pc' := 5) (fun _ _ _ _ _ L => lv_dup hx hb dX1_pass_4 rfl) ?_
  refine x_ldcS (tx := "ticks") (q := G.2 17) X (by simp [x_ss, RX1]) dX1_pass_5 ?_
  refine x_pc (pc' := 7) rfl ?_
  refine x_up (pc' := 8) (fun _ _ _ _ _ L => lv_iload_n hx hb dX1_pass_7 rfl (lv_at L 1 rfl)) ?_
  refine x_up (pc' := 9) (fun _ _ _ _ _ L => lv_iconst (v := (0 : Int32)) hx hb dX1_pass_8 (by decide)) ?_
  refine x_callI 3 X (fun σ' KK h => R_X5_init l hl G hG q1 (some (G.2 17)) x1 (0 : Int32) σ' KK h) (lw_meth q2134) q120 q2132 q2133 rfl mdX5_init ⟨Nat.le_of_ble_eq_true rfl, Nat.le_of_ble_eq_true rfl⟩ rfl rfl (Nat.le_of_ble_eq_true rfl) dX1_pass_9 hp1 (fun σ3 hp2 => ?_)
  refine x_pc (pc' := 12) rfl ?_
  refine x_callVH (em := emI) (fun r st => .int r :: st) (fun _ _ => rfl) 1 X (kX1 hG) (fun σ' KK KX h => R_X1_done l hl G hG a0 (some q1) σ' KK KX h) (lw_VW q2146 q2148 qs26 q99 q2149) ⟨rfl, mdX1_done⟩ ⟨Nat.le_of_ble_eq_true rfl, Nat.le_of_ble_eq_true rfl⟩ rfl rfl (Nat.le_of_ble_eq_true rfl) dX1_pass_12 hp2.1 hp2.2 (fun v4 σ5 hpA12 => ?_) (fun q6 σ7 hpB12 => ?_)
  · have hp3 := hpA12
    refine x_pc (pc' := 15) rfl ?_
    refine x_vx ?_; exact x_iret X hr rfl dX1_pass_15 hp3
  · have hp4 := hpB12
    obtain ⟨hq12, hp5⟩ := hp4
    obtain ⟨hr12, hp6⟩ := hp5
    exact x_out X (kJ32 hG) (hout 12) hr12 hq12 hp6
-- X1_pin
def P_X1_pin (κ : Nat → Nat) (a0 : Nat) (x1 : Int32) (σ : xS) (K : Int32 → xH → Prop) (KX : Nat → xH → Prop) : Prop :=
  xnew κ σ 11 3 [va_rf none, .int 0, .int 0] fun q1 σ2 => xcall (fun τ L => P_X5_init κ q1 (some (κ 13)) x1 (0 : Int32) τ L) σ2 fun _ σ3 => xrc σ3 a0 0 ∧ xcallX (fun τ L LX => P_X1_done κ a0 (some q1) τ L LX) σ3 (fun v4 σ5 => K v4 σ5.1) (fun q6 σ7 => κ 0 ≤ q6 ∧ ((xrc σ7 q6 20 ∧ (KX q6 σ7.1))))
theorem mdX1_pin : yX1_pin.cls ≠ "java/lang/invoke/MethodHandle" ∧ yX1_pin.cls ≠ "java/lang/invoke/VarHandle" ∧ (parseMethodDescriptor yX1_pin.desc).map (fun d => d.parameters.length) = some 1 := by decide +kernel
set_option maxHeartbeats 4000000 in
set_option maxRecDepth 100000 in
theorem R_X1_pin (l : Launch) (hl : l.stackTraces = false) (G : xG) (hG : G.1.2 = x_cl) (a0 : Nat) (x1 : Int32) (σ : xS) (K : Int32 → xH → Prop) (KX : Nat → xH → Prop) (hp : P_X1_pin G.2 a0 x1 σ K KX) : xMX l yX1_pin cX1_pin 2 (Option.some Jvm.ClassFile.FieldType.int) 17 476 G [(.ref a0), .int x1] σ (xlift emI K) KX := by
  refine x_entryX (by decide) (Nat.le_of_ble_eq_true rfl) ?_
  intro p e s m args below meth c X hr hin hno
  have X : xX p s m args meth c G cX1_pin 2 RX1 := X
  have hx := X.1
  have hb := X.2.1
  have hts := X.2.2.2.2.1
  have hown := X.2.2.2.1
  have hout : ∀ pc, ∀ x ∈ c.exceptionTable.toList, covers x pc = false := fun _ x hx => (hno x hx).elim
  unfold P_X1_pin at hp
  refine x_same (lo' := [(0, .ref a0), (1, .int x1)]) rfl ?_
  refine x_up (pc' := 1) (fun _ _ _ _ _ L => lv_aload_n hx hb dX1_pin_0 rfl (lv_at L 0 rfl)) ?_
  refine x_new X (kX5 hG) q2129 q2130 q120 (fs := [va_rf none, .int 0, .int 0]) x_dflt_X5 dX1_pin_1 hp (fun q1 σ2 hp1 => ?_)
  refine x_pc (pc' := 4) rfl ?_
  refine x_up (pc' := 5) (fun _ _ _ _ _ L => lv_dup hx hb dX1_pin_4 rfl) ?_
  refine x_ldcS (tx := "pin") (q := G.2 13) X (by simp [x_ss, RX1]) dX1_pin_5 ?_
  refine x_pc (pc' := 7) rfl ?_
  refine x_up (pc' := 8) (fun _ _ _ _ _ L => lv_iload_n hx hb dX1_pin_7 rfl (lv_at L 1 rfl)) ?_
  refine x_up (pc' := 9) (fun _ _ _ _ _ L => lv_iconst (v := (0 : Int32)) hx hb dX1_pin_8 (by decide)) ?_
  refine x_callI 3 X (fun σ' KK h => R_X5_init l hl G hG q1 (some (G.2 13)) x1 (0 : Int32) σ' KK h) (lw_meth q2134) q120 q2132 q2133 rfl mdX5_init ⟨Nat.le_of_ble_eq_true rfl, Nat.le_of_ble_eq_true rfl⟩ rfl rfl (Nat.le_of_ble_eq_true rfl) dX1_pin_9 hp1 (fun σ3 hp2 => ?_)
  refine x_pc (pc' := 12) rfl ?_
  refine x_callVH (em := emI) (fun r st => .int r :: st) (fun _ _ => rfl) 1 X (kX1 hG) (fun σ' KK KX h => R_X1_done l hl G hG a0 (some q1) σ' KK KX h) (lw_VW q2146 q2148 qs26 q99 q2149) ⟨rfl, mdX1_done⟩ ⟨Nat.le_of_ble_eq_true rfl, Nat.le_of_ble_eq_true rfl⟩ rfl rfl (Nat.le_of_ble_eq_true rfl) dX1_pin_12 hp2.1 hp2.2 (fun v4 σ5 hpA12 => ?_) (fun q6 σ7 hpB12 => ?_)
  · have hp3 := hpA12
    refine x_pc (pc' := 15) rfl ?_
    refine x_vx ?_; exact x_iret X hr rfl dX1_pin_15 hp3
  · have hp4 := hpB12
    obtain ⟨hq12, hp5⟩ := hp4
    obtain ⟨hr12, hp6⟩ := hp5
    exact x_out X (kJ32 hG) (hout 12) hr12 hq12 hp6
-- X1_free
def P_X1_free (κ : Nat → Nat) (a0 : Nat) (x1 : Int32) (σ : xS) (K : Int32 → xH → Prop) (KX : Nat → xH → Prop) : Prop :=
  xnew κ σ 11 3 [va_rf none, .int 0, .int 0] fun q1 σ2 => xcall (fun τ L => P_X5_init κ q1 (some (κ 14)) x1 (0 : Int32) τ L) σ2 fun _ σ3 => xrc σ3 a0 0 ∧ xcallX (fun τ L LX => P_X1_done κ a0 (some q1) τ L LX) σ3 (fun v4 σ5 => K v4 σ5.1) (fun q6 σ7 => κ 0 ≤ q6 ∧ ((xrc σ7 q6 20 ∧ (KX q6 σ7.1))))
theorem mdX1_free : yX1_free.cls ≠ "java/lang/invoke/MethodHandle" ∧ yX1_free.cls ≠ "java/lang/invoke/VarHandle" ∧ (parseMethodDescriptor yX1_free.desc).map (fun d => d.parameters.length) = some 1 := by decide +kernel
set_option maxHeartbeats 4000000 in
set_option maxRecDepth 100000 in
theorem R_X1_free (l : Launch) (hl : l.stackTraces = false) (G : xG) (hG : G.1.2 = x_cl) (a0 : Nat) (x1 : Int32) (σ : xS) (K : Int32 → xH → Prop) (KX : Nat → xH → Prop) (hp : P_X1_free G.2 a0 x1 σ K KX) : xMX l yX1_free cX1_free 2 (Option.some Jvm.ClassFile.FieldType.int) 17 476 G [(.ref a0), .int x1] σ (xlift emI K) KX := by
  refine x_entryX (by decide) (Nat.le_of_ble_eq_true rfl) ?_
  intro p e s m args below meth c X hr hin hno
  have X : xX p s m args meth c G cX1_free 2 RX1 := X
  have hx := X.1
  have hb := X.2.1
  have hts := X.2.2.2.2.1
  have hown := X.2.2.2.1
  have hout : ∀ pc, ∀ x ∈ c.exceptionTable.toList, covers x pc = false := fun _ x hx => (hno x hx).elim
  unfold P_X1_free at hp
  refine x_same (lo' := [(0, .ref a0), (1, .int x1)]) rfl ?_
  refine x_up (pc' := 1) (fun _ _ _ _ _ L => lv_aload_n hx hb dX1_free_0 rfl (lv_at L 0 rfl)) ?_
  refine x_new X (kX5 hG) q2129 q2130 q120 (fs := [va_rf none, .int 0, .int 0]) x_dflt_X5 dX1_free_1 hp (fun q1 σ2 hp1 => ?_)
  refine x_pc (pc' := 4) rfl ?_
  refine x_up (pc' := 5) (fun _ _ _ _ _ L => lv_dup hx hb dX1_free_4 rfl) ?_
  refine x_ldcS (tx := "free") (q := G.2 14) X (by simp [x_ss, RX1]) dX1_free_5 ?_
  refine x_pc (pc' := 7) rfl ?_
  refine x_up (pc' := 8) (fun _ _ _ _ _ L => lv_iload_n hx hb dX1_free_7 rfl (lv_at L 1 rfl)) ?_
  refine x_up (pc' := 9) (fun _ _ _ _ _ L => lv_iconst (v := (0 : Int32)) hx hb dX1_free_8 (by decide)) ?_
  refine x_callI 3 X (fun σ' KK h => R_X5_init l hl G hG q1 (some (G.2 14)) x1 (0 : Int32) σ' KK h) (lw_meth q2134) q120 q2132 q2133 rfl mdX5_init ⟨Nat.le_of_ble_eq_true rfl, Nat.le_of_ble_eq_true rfl⟩ rfl rfl (Nat.le_of_ble_eq_true rfl) dX1_free_9 hp1 (fun σ3 hp2 => ?_)
  refine x_pc (pc' := 12) rfl ?_
  refine x_callVH (em := emI) (fun r st => .int r :: st) (fun _ _ => rfl) 1 X (kX1 hG) (fun σ' KK KX h => R_X1_done l hl G hG a0 (some q1) σ' KK KX h) (lw_VW q2146 q2148 qs26 q99 q2149) ⟨rfl, mdX1_done⟩ ⟨Nat.le_of_ble_eq_true rfl, Nat.le_of_ble_eq_true rfl⟩ rfl rfl (Nat.le_of_ble_eq_true rfl) dX1_free_12 hp2.1 hp2.2 (fun v4 σ5 hpA12 => ?_) (fun q6 σ7 hpB12 => ?_)
  · have hp3 := hpA12
    refine x_pc (pc' := 15) rfl ?_
    refine x_vx ?_; exact x_iret X hr rfl dX1_free_15 hp3
  · have hp4 := hpB12
    obtain ⟨hq12, hp5⟩ := hp4
    obtain ⟨hr12, hp6⟩ := hp5
    exact x_out X (kJ32 hG) (hout 12) hr12 hq12 hp6
-- X1_flush
def P_X1_flush (κ : Nat → Nat) (a0 : Nat) (σ : xS) (K : Int32 → xH → Prop) (KX : Nat → xH → Prop) : Prop :=
  xnew κ σ 11 3 [va_rf none, .int 0, .int 0] fun q1 σ2 => xcall (fun τ L => P_X5_init κ q1 (some (κ 15)) (0 : Int32) (0 : Int32) τ L) σ2 fun _ σ3 => xrc σ3 a0 0 ∧ xcallX (fun τ L LX => P_X1_done κ a0 (some q1) τ L LX) σ3 (fun v4 σ5 => K v4 σ5.1) (fun q6 σ7 => κ 0 ≤ q6 ∧ ((xrc σ7 q6 20 ∧ (KX q6 σ7.1))))
theorem mdX1_flush : yX1_flush.cls ≠ "java/lang/invoke/MethodHandle" ∧ yX1_flush.cls ≠ "java/lang/invoke/VarHandle" ∧ (parseMethodDescriptor yX1_flush.desc).map (fun d => d.parameters.length) = some 0 := by decide +kernel
set_option maxHeartbeats 4000000 in
set_option maxRecDepth 100000 in
theorem R_X1_flush (l : Launch) (hl : l.stackTraces = false) (G : xG) (hG : G.1.2 = x_cl) (a0 : Nat) (σ : xS) (K : Int32 → xH → Prop) (KX : Nat → xH → Prop) (hp : P_X1_flush G.2 a0 σ K KX) : xMX l yX1_flush cX1_flush 1 (Option.some Jvm.ClassFile.FieldType.int) 17 476 G [(.ref a0)] σ (xlift emI K) KX := by
  refine x_entryX (by decide) (Nat.le_of_ble_eq_true rfl) ?_
  intro p e s m args below meth c X hr hin hno
  have X : xX p s m args meth c G cX1_flush 1 RX1 := X
  have hx := X.1
  have hb := X.2.1
  have hts := X.2.2.2.2.1
  have hown := X.2.2.2.1
  have hout : ∀ pc, ∀ x ∈ c.exceptionTable.toList, covers x pc = false := fun _ x hx => (hno x hx).elim
  unfold P_X1_flush at hp
  refine x_same (lo' := [(0, .ref a0)]) rfl ?_
  refine x_up (pc' := 1) (fun _ _ _ _ _ L => lv_aload_n hx hb dX1_flush_0 rfl (lv_at L 0 rfl)) ?_
  refine x_new X (kX5 hG) q2129 q2130 q120 (fs := [va_rf none, .int 0, .int 0]) x_dflt_X5 dX1_flush_1 hp (fun q1 σ2 hp1 => ?_)
  refine x_pc (pc' := 4) rfl ?_
  refine x_up (pc' := 5) (fun _ _ _ _ _ L => lv_dup hx hb dX1_flush_4 rfl) ?_
  refine x_ldcS (tx := "flush") (q := G.2 15) X (by simp [x_ss, RX1]) dX1_flush_5 ?_
  refine x_pc (pc' := 7) rfl ?_
  refine x_up (pc' := 8) (fun _ _ _ _ _ L => lv_iconst (v := (0 : Int32)) hx hb dX1_flush_7 (by decide)) ?_
  refine x_up (pc' := 9) (fun _ _ _ _ _ L => lv_iconst (v := (0 : Int32)) hx hb dX1_flush_8 (by decide)) ?_
  refine x_callI 3 X (fun σ' KK h => R_X5_init l hl G hG q1 (some (G.2 15)) (0 : Int32) (0 : Int32) σ' KK h) (lw_meth q2134) q120 q2132 q2133 rfl mdX5_init ⟨Nat.le_of_ble_eq_true rfl, Nat.le_of_ble_eq_true rfl⟩ rfl rfl (Nat.le_of_ble_eq_true rfl) dX1_flush_9 hp1 (fun σ3 hp2 => ?_)
  refine x_pc (pc' := 12) rfl ?_
  refine x_callVH (em := emI) (fun r st => .int r :: st) (fun _ _ => rfl) 1 X (kX1 hG) (fun σ' KK KX h => R_X1_done l hl G hG a0 (some q1) σ' KK KX h) (lw_VW q2146 q2148 qs26 q99 q2149) ⟨rfl, mdX1_done⟩ ⟨Nat.le_of_ble_eq_true rfl, Nat.le_of_ble_eq_true rfl⟩ rfl rfl (Nat.le_of_ble_eq_true rfl) dX1_flush_12 hp2.1 hp2.2 (fun v4 σ5 hpA12 => ?_) (fun q6 σ7 hpB12 => ?_)
  · have hp3 := hpA12
    refine x_pc (pc' := 15) rfl ?_
    refine x_vx ?_; exact x_iret X hr rfl dX1_flush_15 hp3
  · have hp4 := hpB12
    obtain ⟨hq12, hp5⟩ := hp4
    obtain ⟨hr12, hp6⟩ := hp5
    exact x_out X (kJ32 hG) (hout 12) hr12 hq12 hp6
-- X1_shape
def P_X1_shape (κ : Nat → Nat) (a0 : Nat) (x1 : Int32) (x2 : Int32) (σ : xS) (K : Int32 → xH → Prop) (KX : Nat → xH → Prop) : Prop :=
  xnew κ σ 11 3 [va_rf none, .int 0, .int 0] fun q1 σ2 => xcall (fun τ L => P_X5_init κ q1 (some (κ 18)) x1 x2 τ L) σ2 fun _ σ3 => xrc σ3 a0 0 ∧ xcallX (fun τ L LX => P_X1_done κ a0 (some q1) τ L LX) σ3 (fun v4 σ5 => K v4 σ5.1) (fun q6 σ7 => κ 0 ≤ q6 ∧ ((xrc σ7 q6 20 ∧ (KX q6 σ7.1))))
theorem mdX1_shape : yX1_shape.cls ≠ "java/lang/invoke/MethodHandle" ∧ yX1_shape.cls ≠ "java/lang/invoke/VarHandle" ∧ (parseMethodDescriptor yX1_shape.desc).map (fun d => d.parameters.length) = some 2 := by decide +kernel
set_option maxHeartbeats 4000000 in
set_option maxRecDepth 100000 in
theorem R_X1_shape (l : Launch) (hl : l.stackTraces = false) (G : xG) (hG : G.1.2 = x_cl) (a0 : Nat) (x1 : Int32) (x2 : Int32) (σ : xS) (K : Int32 → xH → Prop) (KX : Nat → xH → Prop) (hp : P_X1_shape G.2 a0 x1 x2 σ K KX) : xMX l yX1_shape cX1_shape 3 (Option.some Jvm.ClassFile.FieldType.int) 17 476 G [(.ref a0), .int x1, .int x2] σ (xlift emI K) KX := by
  refine x_entryX (by decide) (Nat.le_of_ble_eq_true rfl) ?_
  intro p e s m args below meth c X hr hin hno
  have X : xX p s m args meth c G cX1_shape 3 RX1 := X
  have hx := X.1
  have hb := X.2.1
  have hts := X.2.2.2.2.1
  have hown := X.2.2.2.1
  have hout : ∀ pc, ∀ x ∈ c.exceptionTable.toList, covers x pc = false := fun _ x hx => (hno x hx).elim
  unfold P_X1_shape at hp
  refine x_same (lo' := [(0, .ref a0), (1, .int x1), (2, .int x2)]) rfl ?_
  refine x_up (pc' := 1) (fun _ _ _ _ _ L => lv_aload_n hx hb dX1_shape_0 rfl (lv_at L 0 rfl)) ?_
  refine x_new X (kX5 hG) q2129 q2130 q120 (fs := [va_rf none, .int 0, .int 0]) x_dflt_X5 dX1_shape_1 hp (fun q1 σ2 hp1 => ?_)
  refine x_pc (pc' := 4) rfl ?_
  refine x_up (pc' := 5) (fun _ _ _ _ _ L => lv_dup hx hb dX1_shape_4 rfl) ?_
  refine x_ldcS (tx := "shape") (q := G.2 18) X (by simp [x_ss, RX1]) dX1_shape_5 ?_
  refine x_pc (pc' := 7) rfl ?_
  refine x_up (pc' := 8) (fun _ _ _ _ _ L => lv_iload_n hx hb dX1_shape_7 rfl (lv_at L 1 rfl)) ?_
  refine x_up (pc' := 9) (fun _ _ _ _ _ L => lv_iload_n hx hb dX1_shape_8 rfl (lv_at L 2 rfl)) ?_
  refine x_callI 3 X (fun σ' KK h => R_X5_init l hl G hG q1 (some (G.2 18)) x1 x2 σ' KK h) (lw_meth q2134) q120 q2132 q2133 rfl mdX5_init ⟨Nat.le_of_ble_eq_true rfl, Nat.le_of_ble_eq_true rfl⟩ rfl rfl (Nat.le_of_ble_eq_true rfl) dX1_shape_9 hp1 (fun σ3 hp2 => ?_)
  refine x_pc (pc' := 12) rfl ?_
  refine x_callVH (em := emI) (fun r st => .int r :: st) (fun _ _ => rfl) 1 X (kX1 hG) (fun σ' KK KX h => R_X1_done l hl G hG a0 (some q1) σ' KK KX h) (lw_VW q2146 q2148 qs26 q99 q2149) ⟨rfl, mdX1_done⟩ ⟨Nat.le_of_ble_eq_true rfl, Nat.le_of_ble_eq_true rfl⟩ rfl rfl (Nat.le_of_ble_eq_true rfl) dX1_shape_12 hp2.1 hp2.2 (fun v4 σ5 hpA12 => ?_) (fun q6 σ7 hpB12 => ?_)
  · have hp3 := hpA12
    refine x_pc (pc' := 15) rfl ?_
    refine x_vx ?_; exact x_iret X hr rfl dX1_shape_15 hp3
  · have hp4 := hpB12
    obtain ⟨hq12, hp5⟩ := hp4
    obtain ⟨hr12, hp6⟩ := hp5
    exact x_out X (kJ32 hG) (hout 12) hr12 hq12 hp6
-- X1_rule
def P_X1_rule (κ : Nat → Nat) (a0 : Nat) (x1 : Int32) (σ : xS) (K : Int32 → xH → Prop) (KX : Nat → xH → Prop) : Prop :=
  xnew κ σ 11 3 [va_rf none, .int 0, .int 0] fun q1 σ2 => xcall (fun τ L => P_X5_init κ q1 (some (κ 19)) x1 (0 : Int32) τ L) σ2 fun _ σ3 => xrc σ3 a0 0 ∧ xcallX (fun τ L LX => P_X1_done κ a0 (some q1) τ L LX) σ3 (fun v4 σ5 => K v4 σ5.1) (fun q6 σ7 => κ 0 ≤ q6 ∧ ((xrc σ7 q6 20 ∧ (KX q6 σ7.1))))
theorem mdX1_rule : yX1_rule.cls ≠ "java/lang/invoke/MethodHandle" ∧ yX1_rule.cls ≠ "java/lang/invoke/VarHandle" ∧ (parseMethodDescriptor yX1_rule.desc).map (fun d => d.parameters.length) = some 1 := by decide +kernel
set_option maxHeartbeats 4000000 in
set_option maxRecDepth 100000 in
theorem R_X1_rule (l : Launch) (hl : l.stackTraces = false) (G : xG) (hG : G.1.2 = x_cl) (a0 : Nat) (x1 : Int32) (σ : xS) (K : Int32 → xH → Prop) (KX : Nat → xH → Prop) (hp : P_X1_rule G.2 a0 x1 σ K KX) : xMX l yX1_rule cX1_rule 2 (Option.some Jvm.ClassFile.FieldType.int) 17 476 G [(.ref a0), .int x1] σ (xlift emI K) KX := by
  refine x_entryX (by decide) (Nat.le_of_ble_eq_true rfl) ?_
  intro p e s m args below meth c X hr hin hno
  have X : xX p s m args meth c G cX1_rule 2 RX1 := X
  have hx := X.1
  have hb := X.2.1
  have hts := X.2.2.2.2.1
  have hown := X.2.2.2.1
  have hout : ∀ pc, ∀ x ∈ c.exceptionTable.toList, covers x pc = false := fun _ x hx => (hno x hx).elim
  unfold P_X1_rule at hp
  refine x_same (lo' := [(0, .ref a0), (1, .int x1)]) rfl ?_
  refine x_up (pc' := 1) (fun _ _ _ _ _ L => lv_aload_n hx hb dX1_rule_0 rfl (lv_at L 0 rfl)) ?_
  refine x_new X (kX5 hG) q2129 q2130 q120 (fs := [va_rf none, .int 0, .int 0]) x_dflt_X5 dX1_rule_1 hp (fun q1 σ2 hp1 => ?_)
  refine x_pc (pc' := 4) rfl ?_
  refine x_up (pc' := 5) (fun _ _ _ _ _ L => lv_dup hx hb dX1_rule_4 rfl) ?_
  refine x_ldcS (tx := "rule") (q := G.2 19) X (by simp [x_ss, RX1]) dX1_rule_5 ?_
  refine x_pc (pc' := 7) rfl ?_
  refine x_up (pc' := 8) (fun _ _ _ _ _ L => lv_iload_n hx hb dX1_rule_7 rfl (lv_at L 1 rfl)) ?_
  refine x_up (pc' := 9) (fun _ _ _ _ _ L => lv_iconst (v := (0 : Int32)) hx hb dX1_rule_8 (by decide)) ?_
  refine x_callI 3 X (fun σ' KK h => R_X5_init l hl G hG q1 (some (G.2 19)) x1 (0 : Int32) σ' KK h) (lw_meth q2134) q120 q2132 q2133 rfl mdX5_init ⟨Nat.le_of_ble_eq_true rfl, Nat.le_of_ble_eq_true rfl⟩ rfl rfl (Nat.le_of_ble_eq_true rfl) dX1_rule_9 hp1 (fun σ3 hp2 => ?_)
  refine x_pc (pc' := 12) rfl ?_
  refine x_callVH (em := emI) (fun r st => .int r :: st) (fun _ _ => rfl) 1 X (kX1 hG) (fun σ' KK KX h => R_X1_done l hl G hG a0 (some q1) σ' KK KX h) (lw_VW q2146 q2148 qs26 q99 q2149) ⟨rfl, mdX1_done⟩ ⟨Nat.le_of_ble_eq_true rfl, Nat.le_of_ble_eq_true rfl⟩ rfl rfl (Nat.le_of_ble_eq_true rfl) dX1_rule_12 hp2.1 hp2.2 (fun v4 σ5 hpA12 => ?_) (fun q6 σ7 hpB12 => ?_)
  · have hp3 := hpA12
    refine x_pc (pc' := 15) rfl ?_
    refine x_vx ?_; exact x_iret X hr rfl dX1_rule_15 hp3
  · have hp4 := hpB12
    obtain ⟨hq12, hp5⟩ := hp4
    obtain ⟨hr12, hp6⟩ := hp5
    exact x_out X (kJ32 hG) (hout 12) hr12 hq12 hp6
-- X1_requireIndex
def P_X1_requireIndex (κ : Nat → Nat) (x0 : Int32) (σ : xS) (K : Unit → xH → Prop) (KX : Nat → xH → Prop) : Prop :=
  ((x0 = 0 → (xmak κ σ 16 fun q1 σ2 => κ 0 ≤ q1 ∧ xrc σ2 q1 16 ∧ KX q1 σ2.1)) ∧ (¬ x0 = 0 → (K () σ.1)))
theorem mdX1_requireIndex : yX1_requireIndex.cls ≠ "java/lang/invoke/MethodHandle" ∧ yX1_requireIndex.cls ≠ "java/lang/invoke/VarHandle" ∧ (parseMethodDescriptor yX1_requireIndex.desc).map (fun d => d.parameters.length) = some 1 := by decide +kernel
set_option maxHeartbeats 4000000 in
set_option maxRecDepth 100000 in
theorem R_X1_requireIndex (l : Launch) (hl : l.stackTraces = false) (G : xG) (hG : G.1.2 = x_cl) (x0 : Int32) (σ : xS) (K : Unit → xH → Prop) (KX : Nat → xH → Prop) (hp : P_X1_requireIndex G.2 x0 σ K KX) : xMX l yX1_requireIndex cX1_requireIndex 1 (Option.none : Option Jvm.ClassFile.FieldType) 6 89 G [.int x0] σ (xlift emV K) KX := by
  refine x_entryX (by decide) (Nat.le_of_ble_eq_true rfl) ?_
  intro p e s m args below meth c X hr hin hno
  have X : xX p s m args meth c G cX1_requireIndex 1 RX1 := X
  have hx := X.1
  have hb := X.2.1
  have hts := X.2.2.2.2.1
  have hown := X.2.2.2.1
  have hout : ∀ pc, ∀ x ∈ c.exceptionTable.toList, covers x pc = false := fun _ x hx => (hno x hx).elim
  unfold P_X1_requireIndex at hp
  refine x_same (lo' := [(0, .int x0)]) rfl ?_
  refine x_up (pc' := 1) (fun _ _ _ _ _ L => lv_iload_n hx hb dX1_requireIndex_0 rfl (lv_at L 0 rfl)) ?_
  refine x_ifn (C := x0 = 0) (pt := 12) (pc' := 4) (fun _ _ _ _ _ => lv_if_ne (tgt := 12) hx hb dX1_requireIndex_1 (by decide)) (fun c1 => ?_) (fun c1 => ?_)
  · have hp1 := hp.1 c1
    refine x_make0 (names := ["java/lang/RuntimeException", "java/lang/Exception"]) X hl (kJ28 hG) (by decide +kernel) (by decide +kernel) q2663 q133 xat_X1_3 xal_X1_3 (by decide +kernel) dX1_requireIndex_4 dX1_requireIndex_7 dX1_requireIndex_8 (Nat.le_of_ble_eq_true rfl) (Nat.le_of_ble_eq_true rfl) (Nat.le_of_ble_eq_true rfl) hp1 (fun q1 σ2 hp2 => ?_)
    refine x_pc (pc' := 11) rfl ?_
    obtain ⟨hq11, hr11, hp3⟩ := hp2
    refine x_athrow X dX1_requireIndex_11 ?_
    exact x_out X (kJ28 hG) (hout 11) hr11 hq11 hp3
  · have hp4 := hp.2 c1
    refine x_vx ?_; exact x_vret X hr dX1_requireIndex_12 hp4
-- X1_requireAddress
def P_X1_requireAddress (κ : Nat → Nat) (x0 : Int32) (σ : xS) (K : Unit → xH → Prop) (KX : Nat → xH → Prop) : Prop :=
  xcall (fun τ L => P_X1_isBetween κ x0 (0 : Int32) (63 : Int32) τ L) σ fun v1 σ2 => xcallX (fun τ L LX => P_X1_requireIndex κ v1 τ L LX) σ2 (fun _ σ3 => K () σ3.1) (fun q4 σ5 => κ 0 ≤ q4 ∧ ((xrc σ5 q4 16 ∧ (KX q4 σ5.1))))
theorem mdX1_requireAddress : yX1_requireAddress.cls ≠ "java/lang/invoke/MethodHandle" ∧ yX1_requireAddress.cls ≠ "java/lang/invoke/VarHandle" ∧ (parseMethodDescriptor yX1_requireAddress.desc).map (fun d => d.parameters.length) = some 1 := by decide +kernel
set_option maxHeartbeats 4000000 in
set_option maxRecDepth 100000 in
theorem R_X1_requireAddress (l : Launch) (hl : l.stackTraces = false) (G : xG) (hG : G.1.2 = x_cl) (x0 : Int32) (σ : xS) (K : Unit → xH → Prop) (KX : Nat → xH → Prop) (hp : P_X1_requireAddress G.2 x0 σ K KX) : xMX l yX1_requireAddress cX1_requireAddress 1 (Option.none : Option Jvm.ClassFile.FieldType) 7 109 G [.int x0] σ (xlift emV K) KX := by
  refine x_entryX (by decide) (Nat.le_of_ble_eq_true rfl) ?_
  intro p e s m args below meth c X hr hin hno
  have X : xX p s m args meth c G cX1_requireAddress 1 RX1 := X
  have hx := X.1
  have hb := X.2.1
  have hts := X.2.2.2.2.1
  have hown := X.2.2.2.1
  have hout : ∀ pc, ∀ x ∈ c.exceptionTable.toList, covers x pc = false := fun _ x hx => (hno x hx).elim
  unfold P_X1_requireAddress at hp
  refine x_same (lo' := [(0, .int x0)]) rfl ?_
  refine x_up (pc' := 1) (fun _ _ _ _ _ L => lv_iload_n hx hb dX1_requireAddress_0 rfl (lv_at L 0 rfl)) ?_
  refine x_up (pc' := 2) (fun _ _ _ _ _ L => lv_iconst (v := (0 : Int32)) hx hb dX1_requireAddress_1 (by decide)) ?_
  refine x_up (pc' := 4) (fun _ _ _ _ _ L => lv_bipush (v := (63 : Int32)) hx hb dX1_requireAddress_2 (by decide)) ?_
  refine x_callS (em := emI) (fun r st => .int r :: st) (fun _ _ => rfl) 3 X (fun σ' KK h => R_X1_isBetween l hl G hG x0 (0 : Int32) (63 : Int32) σ' KK h) (lw_S q2235 q2236 q99 q2237) mdX1_isBetween ⟨Nat.le_of_ble_eq_true rfl, Nat.le_of_ble_eq_true rfl⟩ rfl rfl (Nat.le_of_ble_eq_true rfl) dX1_requireAddress_4 hp (fun v1 σ2 hp1 => ?_)
  refine x_pc (pc' := 7) rfl ?_
  refine x_callSX (em := emV) (fun r st => st) (fun _ _ => rfl) 1 X (fun σ' KK KX h => R_X1_requireIndex l hl G hG v1 σ' KK KX h) (lw_S q2660 q2661 q99 q2662) mdX1_requireIndex ⟨Nat.le_of_ble_eq_true rfl, Nat.le_of_ble_eq_true rfl⟩ rfl rfl (Nat.le_of_ble_eq_true rfl) dX1_requireAddress_7 hp1 (fun _ σ3 hpA7 => ?_) (fun q4 σ5 hpB7 => ?_)
  · have hp2 := hpA7
    refine x_pc (pc' := 10) rfl ?_
    refine x_vx ?_; exact x_vret X hr dX1_requireAddress_10 hp2
  · have hp3 := hpB7
    obtain ⟨hq7, hp4⟩ := hp3
    obtain ⟨hr7, hp5⟩ := hp4
    exact x_out X (kJ28 hG) (hout 7) hr7 hq7 hp5
-- X1_wordAt
def P_X1_wordAt (κ : Nat → Nat) (a0 : Nat) (x1 : Int32) (σ : xS) (K : Int32 → xH → Prop) (KX : Nat → xH → Prop) : Prop :=
  xcallX (fun τ L LX => P_X1_requireAddress κ x1 τ L LX) σ (fun _ σ1 => xgq σ1 a0 0 0 fun v4 => xnn v4 fun b5 => xrc σ1 b5 1 ∧ xcall (fun τ L => P_X2_wordAt κ b5 x1 τ L) σ1 fun v6 σ7 => K v6 σ7.1) (fun q2 σ3 => κ 0 ≤ q2 ∧ ((xrc σ3 q2 16 ∧ (KX q2 σ3.1))))
theorem mdX1_wordAt : yX1_wordAt.cls ≠ "java/lang/invoke/MethodHandle" ∧ yX1_wordAt.cls ≠ "java/lang/invoke/VarHandle" ∧ (parseMethodDescriptor yX1_wordAt.desc).map (fun d => d.parameters.length) = some 1 := by decide +kernel
set_option maxHeartbeats 4000000 in
set_option maxRecDepth 100000 in
theorem R_X1_wordAt (l : Launch) (hl : l.stackTraces = false) (G : xG) (hG : G.1.2 = x_cl) (a0 : Nat) (x1 : Int32) (σ : xS) (K : Int32 → xH → Prop) (KX : Nat → xH → Prop) (hp : P_X1_wordAt G.2 a0 x1 σ K KX) : xMX l yX1_wordAt cX1_wordAt 2 (Option.some Jvm.ClassFile.FieldType.int) 8 129 G [(.ref a0), .int x1] σ (xlift emI K) KX := by
  refine x_entryX (by decide) (Nat.le_of_ble_eq_true rfl) ?_
  intro p e s m args below meth c X hr hin hno
  have X : xX p s m args meth c G cX1_wordAt 2 RX1 := X
  have hx := X.1
  have hb := X.2.1
  have hts := X.2.2.2.2.1
  have hown := X.2.2.2.1
  have hout : ∀ pc, ∀ x ∈ c.exceptionTable.toList, covers x pc = false := fun _ x hx => (hno x hx).elim
  unfold P_X1_wordAt at hp
  refine x_same (lo' := [(0, .ref a0), (1, .int x1)]) rfl ?_
  refine x_up (pc' := 1) (fun _ _ _ _ _ L => lv_iload_n hx hb dX1_wordAt_0 rfl (lv_at L 1 rfl)) ?_
  refine x_callSX (em := emV) (fun r st => st) (fun _ _ => rfl) 1 X (fun σ' KK KX h => R_X1_requireAddress l hl G hG x1 σ' KK KX h) (lw_S q2657 q2658 q99 q2659) mdX1_requireAddress ⟨Nat.le_of_ble_eq_true rfl, Nat.le_of_ble_eq_true rfl⟩ rfl rfl (Nat.le_of_ble_eq_true rfl) dX1_wordAt_1 hp (fun _ σ1 hpA1 => ?_) (fun q2 σ3 hpB1 => ?_)
  · have hp1 := hpA1
    refine x_pc (pc' := 4) rfl ?_
    refine x_up (pc' := 5) (fun _ _ _ _ _ L => lv_aload_n hx hb dX1_wordAt_4 rfl (lv_at L 0 rfl)) ?_
    refine x_gq X (kX1 hG) 0 (by decide) q589 (fun _ h => h) dX1_wordAt_5 hp1 (fun v4 hp2 => ?_)
    refine x_pc (pc' := 8) rfl ?_
    refine x_up (pc' := 9) (fun _ _ _ _ _ L => lv_iload_n hx hb dX1_wordAt_8 rfl (lv_at L 1 rfl)) ?_
    obtain ⟨b5, rfl, hp3⟩ := hp2
    refine x_callV (em := emI) (fun r st => .int r :: st) (fun _ _ => rfl) 1 X (kX2 hG) (fun σ' KK h => R_X2_wordAt l hl G hG b5 x1 σ' KK h) (lw_V q2668 q2063 q2064 q100 q2065) ⟨rfl, mdX2_wordAt⟩ ⟨Nat.le_of_ble_eq_true rfl, Nat.le_of_ble_eq_true rfl⟩ rfl rfl (Nat.le_of_ble_eq_true rfl) dX1_wordAt_9 hp3.1 hp3.2 (fun v6 σ7 hp4 => ?_)
    refine x_pc (pc' := 12) rfl ?_
    refine x_vx ?_; exact x_iret X hr rfl dX1_wordAt_12 hp4
  · have hp5 := hpB1
    obtain ⟨hq1, hp6⟩ := hp5
    obtain ⟨hr1, hp7⟩ := hp6
    exact x_out X (kJ28 hG) (hout 1) hr1 hq1 hp7
-- J1_getEntryUsingComparator
def B_J1_getEntryUsingComparator_17 (κ : Nat → Nat) (K : Option Nat → xH → Prop) (f2 : Option Nat) (f3 : Nat) : ((Option Nat) → xS → Prop) → (Option Nat) → xS → Prop := fun self18003 w18001 σ18002 =>
  ((w18001 = none → (K none σ18002.1)) ∧ (∀ b18004 : Nat, w18001 = some b18004 → (xgq σ18002 b18004 19 0 fun v18005 => xcall (fun τ L => ((xrc τ f3 28 ∧ P_X7_compare_2 κ f3 f2 v18005 τ L) ∨ ((xrc τ f3 29 ∧ P_X8_compare κ f3 f2 v18005 τ L) ∨ ((xrc τ f3 30 ∧ P_X9_compare κ f3 f2 v18005 τ L) ∨ ((xrc τ f3 31 ∧ P_X10_compare κ f3 f2 v18005 τ L) ∨ (xrc τ f3 34 ∧ P_X11_compare κ f3 f2 v18005 τ L)))))) σ18002 fun v18006 σ18007 => ((0 ≤ v18006 → (((v18006 ≤ 0 → (K (some b18004) σ18007.1)) ∧ (¬ v18006 ≤ 0 → (xgq σ18007 b18004 19 3 fun v18008 => self18003 v18008 σ18007))))) ∧ (¬ 0 ≤ v18006 → (xgq σ18007 b18004 19 2 fun v18009 => self18003 v18009 σ18007))))))
def P_J1_getEntryUsingComparator (κ : Nat → Nat) (a0 : Nat) (x1 : Option Nat) (σ : xS) (K : Option Nat → xH → Prop) : Prop :=
  xgq σ a0 2 2 fun v1 => ((v1 = none → (K none σ.1)) ∧ (∀ b2 : Nat, v1 = some b2 → (xgq σ a0 2 3 fun v3 => xwhile (B_J1_getEntryUsingComparator_17 κ K x1 b2) v3 σ)))
theorem mdJ1_getEntryUsingComparator : yJ1_getEntryUsingComparator.cls ≠ "java/lang/invoke/MethodHandle" ∧ yJ1_getEntryUsingComparator.cls ≠ "java/lang/invoke/VarHandle" ∧ (parseMethodDescriptor yJ1_getEntryUsingComparator.desc).map (fun d => d.parameters.length) = some 1 := by decide +kernel
set_option maxHeartbeats 4000000 in
set_option maxRecDepth 100000 in
theorem R_J1_getEntryUsingComparator (l : Launch) (hl : l.stackTraces = false) (G : xG) (hG : G.1.2 = x_cl) (a0 : Nat) (x1 : Option Nat) (σ : xS) (K : Option Nat → xH → Prop) (hp : P_J1_getEntryUsingComparator G.2 a0 x1 σ K) : xM l yJ1_getEntryUsingComparator cJ1_getEntryUsingComparator 6 (Option.some (Jvm.ClassFile.FieldType.object "java/util/TreeMap$Entry")) 4 87 G [(.ref a0), va_rf x1] σ (xlift emQ K) := by
  refine x_entry (by decide) (by simp [lg_sl, x_catq, x_cati, x_catr, x_catn]) ?_
  intro p e s m args below meth c X hr hin
  have X : xX p s m args meth c G cJ1_getEntryUsingComparator 6 RJ1 := X
  have hx := X.1
  have hb := X.2.1
  have hts := X.2.2.2.2.1
  have hown := X.2.2.2.1
  unfold P_J1_getEntryUsingComparator at hp
  refine x_same (lo' := [(0, .ref a0), (1, va_rf x1)]) (by simp [lv_args, x_catq, x_cati, x_catr, x_catn]) ?_
  refine x_up (pc' := 1) (fun _ _ _ _ _ L => lv_aloadq_n hx hb dJ1_getEntryUsingComparator_0 rfl (lv_at L 1 rfl)) ?_
  refine x_st (pc' := 2) ([(2, va_rf x1), (0, .ref a0), (1, va_rf x1)]) rfl (by simp [x_catq, x_cati, x_catr, x_catn]) (fun _ _ _ _ _ L => lv_astoreq_n hx hb dJ1_getEntryUsingComparator_1 rfl L (by decide) rfl) ?_
  refine x_up (pc' := 3) (fun _ _ _ _ _ L => lv_aload_n hx hb dJ1_getEntryUsingComparator_2 rfl (lv_at L 1 rfl)) ?_
  refine x_gq X (kJ1 hG) 2 (by decide) q187 (fun _ h => h) dJ1_getEntryUsingComparator_3 hp (fun v1 hp1 => ?_)
  refine x_pc (pc' := 6) rfl ?_
  refine x_st (pc' := 7) ([(3, va_rf v1), (2, va_rf x1), (0, .ref a0), (1, va_rf x1)]) rfl (by simp [x_catq, x_cati, x_catr, x_catn]) (fun _ _ _ _ _ L => lv_astoreq_n hx hb dJ1_getEntryUsingComparator_6 rfl L (by decide) rfl) ?_
  refine x_up (pc' := 8) (fun _ _ _ _ _ L => lv_aloadq_n hx hb dJ1_getEntryUsingComparator_7 rfl (lv_at L 0 rfl)) ?_
  rcases v1 with _ | b2
  · have hp2 := hp1.1 rfl
    refine x_up (pc' := 72) (fun _ _ _ _ _ L => lv_ifnullN (tgt := 72) hx hb dJ1_getEntryUsingComparator_8 (by decide)) ?_
    refine x_up (pc' := 73) (fun _ _ _ _ _ L => lv_null hx hb dJ1_getEntryUsingComparator_72) ?_
    exact x_aret X hr (Or.inl ⟨_, rfl⟩) dJ1_getEntryUsingComparator_73 none hp2
  · have hp3 := hp1.2 _ rfl
    refine x_up (pc' := 11) (fun _ _ _ _ _ L => lv_ifnull hx hb dJ1_getEntryUsingComparator_8) ?_
    refine x_up (pc' := 12) (fun _ _ _ _ _ L => lv_aload_n hx hb dJ1_getEntryUsingComparator_11 rfl (lv_at L 2 rfl)) ?_
    refine x_gq X (kJ1 hG) 3 (by decide) q188 (fun _ h => h) dJ1_getEntryUsingComparator_12 hp3 (fun v3 hp4 => ?_)
    refine x_pc (pc' := 15) rfl ?_
    refine x_upL (pc' := 17) (lo' := [(4, va_rf v3), (3, .ref b2), (2, va_rf x1), (0, .ref a0), (1, va_rf x1)]) (fun _ _ _ _ _ L => lv_astoreq hx hb dJ1_getEntryUsingComparator_15 L (by decide) rfl) ?_
    refine x_lo (lo' := [(4, va_rf v3), (2, va_rf x1), (3, .ref b2)]) [0, 2, 1] rfl ?_
    refine x_while (v0 := v3) (fun w4 => [(4, va_rf w4), (2, va_rf x1), (3, .ref b2)]) hp4 (fun self5 hself6 => ?_)
    rintro y8 σ7 hp5
    unfold B_J1_getEntryUsingComparator_17 at hp5
    refine x_same (lo' := [(4, va_rf y8), (2, va_rf x1), (3, .ref b2)]) rfl ?_
    refine x_up (pc' := 19) (fun _ _ _ _ _ L => lv_aloadq hx hb dJ1_getEntryUsingComparator_17 (lv_at L 0 rfl)) ?_
    rcases y8 with _ | b9
    · have hp6 := hp5.1 rfl
      refine x_up (pc' := 72) (fun _ _ _ _ _ L => lv_ifnullN (tgt := 72) hx hb dJ1_getEntryUsingComparator_19 (by decide)) ?_
      refine x_up (pc' := 73) (fun _ _ _ _ _ L => lv_null hx hb dJ1_getEntryUsingComparator_72) ?_
      exact x_aret X hr (Or.inl ⟨_, rfl⟩) dJ1_getEntryUsingComparator_73 none hp6
    · have hp7 := hp5.2 _ rfl
      refine x_up (pc' := 22) (fun _ _ _ _ _ L => lv_ifnull hx hb dJ1_getEntryUsingComparator_19) ?_
      refine x_up (pc' := 23) (fun _ _ _ _ _ L => lv_aload_n hx hb dJ1_getEntryUsingComparator_22 rfl (lv_at L 2 rfl)) ?_
      refine x_up (pc' := 24) (fun _ _ _ _ _ L => lv_aloadq_n hx hb dJ1_getEntryUsingComparator_23 rfl (lv_at L 1 rfl)) ?_
      refine x_up (pc' := 26) (fun _ _ _ _ _ L => lv_aload hx hb dJ1_getEntryUsingComparator_24 (lv_at L 0 rfl)) ?_
      refine x_gq X (kJ31 hG) 0 (by decide) q1299 (fun _ h => h) dJ1_getEntryUsingComparator_26 hp7 (fun v10 hp8 => ?_)
      refine x_pc (pc' := 29) rfl ?_
      refine x_kk (A := (fun r σ' => xW p l e ({ frames := 4, cells := σ.2.1, slots := σ.2.2, locals := 87 } : Room) s m args below meth c G 6 (MQ below (xQ G (xlift emQ K)) args s σ.2.1 σ.2.2 (xA G)) σ' 34 [(4, .ref b9), (2, va_rf x1), (3, .ref b2)] [.int r])) hp8 (fun v11 σ12 hpK29 => ?_) (fun hd29 kk29 => ?_)
      rotate_left
      · refine x_or hd29 (fun h1 => ?_) (fun h2_0 => ?_)
        · obtain ⟨hr, h1⟩ := x_and h1
          exact x_callF (x := ⟨"java/util/Comparator", "compare", "(Ljava/lang/Object;Ljava/lang/Object;)I"⟩) (em := emI) (fun r st => .int r :: st) (fun _ _ => rfl) 2 X (kX7 hG) (fun σ' KK h => R_X7_compare_2 l hl G hG b2 x1 v10 σ' KK h) q1594 q1655 q1657 q151 q1659 ⟨⟨q1596, q1595, q1658, q1656, q1654⟩, by decide, by decide⟩ (by decide +kernel) ⟨Nat.le_of_ble_eq_true rfl, Nat.le_of_ble_eq_true rfl⟩ rfl rfl (Nat.le_of_ble_eq_true rfl) dJ1_getEntryUsingComparator_29 hr h1 kk29
        refine x_or h2_0 (fun h1 => ?_) (fun h2_1 => ?_)
        · obtain ⟨hr, h1⟩ := x_and h1
          exact x_callF (x := ⟨"java/util/Comparator", "compare", "(Ljava/lang/Object;Ljava/lang/Object;)I"⟩) (em := emI) (fun r st => .int r :: st) (fun _ _ => rfl) 2 X (kX8 hG) (fun σ' KK h => R_X8_compare l hl G hG b2 x1 v10 σ' KK h) q1594 q1609 q1611 q152 q1613 ⟨⟨q1596, q1595, q1612, q1610, q1608⟩, by decide, by decide⟩ (by decide +kernel) ⟨Nat.le_of_ble_eq_true rfl, Nat.le_of_ble_eq_true rfl⟩ rfl rfl (Nat.le_of_ble_eq_true rfl) dJ1_getEntryUsingComparator_29 hr h1 kk29
        refine x_or h2_1 (fun h1 => ?_) (fun h2_2 => ?_)
        · obtain ⟨hr, h1⟩ := x_and h1
          exact x_callF (x := ⟨"java/util/Comparator", "compare", "(Ljava/lang/Object;Ljava/lang/Object;)I"⟩) (em := emI) (fun r st => .int r :: st) (fun _ _ => rfl) 2 X (kX9 hG) (fun σ' KK h => R_X9_compare l hl G hG b2 x1 v10 σ' KK h) q1594 q1620 q1622 q153 q1624 ⟨⟨q1596, q1595, q1623, q1621, q1619⟩, by decide, by decide⟩ (by decide +kernel) ⟨Nat.le_of_ble_eq_true rfl, Nat.le_of_ble_eq_true rfl⟩ rfl rfl (Nat.le_of_ble_eq_true rfl) dJ1_getEntryUsingComparator_29 hr h1 kk29
        refine x_or h2_2 (fun h1 => ?_) (fun h2_3 => ?_)
        · obtain ⟨hr, h1⟩ := x_and h1
          exact x_callF (x := ⟨"java/util/Comparator", "compare", "(Ljava/lang/Object;Ljava/lang/Object;)I"⟩) (em := emI) (fun r st => .int r :: st) (fun _ _ => rfl) 2 X (kX10 hG) (fun σ' KK h => R_X10_compare l hl G hG b2 x1 v10 σ' KK h) q1594 q1635 q1637 q154 q1639 ⟨⟨q1596, q1595, q1638, q1636, q1634⟩, by decide, by decide⟩ (by decide +kernel) ⟨Nat.le_of_ble_eq_true rfl, Nat.le_of_ble_eq_true rfl⟩ rfl rfl (Nat.le_of_ble_eq_true rfl) dJ1_getEntryUsingComparator_29 hr h1 kk29
        obtain ⟨hr, h1⟩ := x_and h2_3
        exact x_callF (x := ⟨"java/util/Comparator", "compare", "(Ljava/lang/Object;Ljava/lang/Object;)I"⟩) (em := emI) (fun r st => .int r :: st) (fun _ _ => rfl) 2 X (kX11 hG) (fun σ' KK h => R_X11_compare l hl G hG b2 x1 v10 σ' KK h) q1594 q1598 q1600 q158 q1602 ⟨⟨q1596, q1595, q1601, q1599, q1597⟩, by decide, by decide⟩ (by decide +kernel) ⟨Nat.le_of_ble_eq_true rfl, Nat.le_of_ble_eq_true rfl⟩ rfl rfl (Nat.le_of_ble_eq_true rfl) dJ1_getEntryUsingComparator_29 hr h1 kk29
      have hp9 := hpK29
      refine x_upL (pc' := 36) (lo' := [(5, .int v11), (4, .ref b9), (2, va_rf x1), (3, .ref b2)]) (fun _ _ _ _ _ L => lv_istore hx hb dJ1_getEntryUsingComparator_34 L (by decide) rfl) ?_
      refine x_up (pc' := 38) (fun _ _ _ _ _ L => lv_iload hx hb dJ1_getEntryUsingComparator_36 (lv_at L 0 rfl)) ?_
      refine x_if (C := 0 ≤ v11) (pt := 51) (pc' := 41) (fun _ _ _ _ _ => lv_if_ge (tgt := 51) hx hb dJ1_getEntryUsingComparator_38 (by decide)) (fun c38 => ?_) (fun c38 => ?_)
      · have hp10 := hp9.1 c38
        refine x_up (pc' := 53) (fun _ _ _ _ _ L => lv_iload hx hb dJ1_getEntryUsingComparator_51 (lv_at L 0 rfl)) ?_
        refine x_if (C := v11 ≤ 0) (pt := 66) (pc' := 56) (fun _ _ _ _ _ => lv_if_le (tgt := 66) hx hb dJ1_getEntryUsingComparator_53 (by decide)) (fun c53 => ?_) (fun c53 => ?_)
        · have hp11 := hp10.1 c53
          refine x_up (pc' := 68) (fun _ _ _ _ _ L => lv_aload hx hb dJ1_getEntryUsingComparator_66 (lv_at L 1 rfl)) ?_
          exact x_aret X hr (Or.inl ⟨_, rfl⟩) dJ1_getEntryUsingComparator_68 (some b9) hp11
        · have hp12 := hp10.2 c53
          refine x_up (pc' := 58) (fun _ _ _ _ _ L => lv_aload hx hb dJ1_getEntryUsingComparator_56 (lv_at L 1 rfl)) ?_
          refine x_gq X (kJ31 hG) 3 (by decide) q1303 (fun _ h => h) dJ1_getEntryUsingComparator_58 hp12 (fun v13 hp13 => ?_)
          refine x_pc (pc' := 61) rfl ?_
          refine x_upL (pc' := 63) (lo' := [(4, va_rf v13), (5, .int v11), (2, va_rf x1), (3, .ref b2)]) (fun _ _ _ _ _ L => lv_astoreq hx hb dJ1_getEntryUsingComparator_61 L (by decide) rfl) ?_
          refine x_up (pc' := 69) (fun _ _ _ _ _ L => lv_goto (tgt := 69) hx hb dJ1_getEntryUsingComparator_63 (by decide)) ?_
          refine x_up (pc' := 17) (fun _ _ _ _ _ L => lv_goto (tgt := 17) hx hb dJ1_getEntryUsingComparator_69 (by decide)) ?_
          refine x_lo (lo' := [(4, va_rf v13), (2, va_rf x1), (3, .ref b2)]) [0, 2, 3] rfl ?_
          exact hself6 v13 σ12 hp13
      · have hp14 := hp9.2 c38
        refine x_up (pc' := 43) (fun _ _ _ _ _ L => lv_aload hx hb dJ1_getEntryUsingComparator_41 (lv_at L 1 rfl)) ?_
        refine x_gq X (kJ31 hG) 2 (by decide) q1302 (fun _ h => h) dJ1_getEntryUsingComparator_43 hp14 (fun v14 hp15 => ?_)
        refine x_pc (pc' := 46) rfl ?_
        refine x_upL (pc' := 48) (lo' := [(4, va_rf v14), (5, .int v11), (2, va_rf x1), (3, .ref b2)]) (fun _ _ _ _ _ L => lv_astoreq hx hb dJ1_getEntryUsingComparator_46 L (by decide) rfl) ?_
        refine x_up (pc' := 69) (fun _ _ _ _ _ L => lv_goto (tgt := 69) hx hb dJ1_getEntryUsingComparator_48 (by decide)) ?_
        refine x_up (pc' := 17) (fun _ _ _ _ _ L => lv_goto (tgt := 17) hx hb dJ1_getEntryUsingComparator_69 (by decide)) ?_
        refine x_lo (lo' := [(4, va_rf v14), (2, va_rf x1), (3, .ref b2)]) [0, 2, 3] rfl ?_
        exact hself6 v14 σ12 hp15
-- J1_getEntry
def B_J1_getEntry_28 (κ : Nat → Nat) (K : Option Nat → xH → Prop) (f2 : Nat) : ((Option Nat) → xS → Prop) → (Option Nat) → xS → Prop := fun self29003 w29001 σ29002 =>
  ((w29001 = none → (K none σ29002.1)) ∧ (∀ b29004 : Nat, w29001 = some b29004 → (xgq σ29002 b29004 19 0 fun v29005 => xrc σ29002 f2 14 ∧ xcall (fun τ L => P_J23_compareTo κ f2 v29005 τ L) σ29002 fun v29006 σ29007 => ((0 ≤ v29006 → (((v29006 ≤ 0 → (K (some b29004) σ29007.1)) ∧ (¬ v29006 ≤ 0 → (xgq σ29007 b29004 19 3 fun v29008 => self29003 v29008 σ29007))))) ∧ (¬ 0 ≤ v29006 → (xgq σ29007 b29004 19 2 fun v29009 => self29003 v29009 σ29007))))))
def P_J1_getEntry (κ : Nat → Nat) (a0 : Nat) (x1 : Option Nat) (σ : xS) (K : Option Nat → xH → Prop) : Prop :=
  xgq σ a0 2 2 fun v1 => ((v1 = none → (xcall (fun τ L => P_J16_requireNonNull κ x1 τ L) σ fun v3 σ4 => xnn x1 fun b5 => xrc σ4 b5 14 ∧ xgq σ4 a0 2 3 fun v6 => xwhile (B_J1_getEntry_28 κ K b5) v6 σ4)) ∧ (∀ b2 : Nat, v1 = some b2 → (xrc σ a0 2 ∧ xcall (fun τ L => P_J1_getEntryUsingComparator κ a0 x1 τ L) σ fun v7 σ8 => K v7 σ8.1)))
theorem mdJ1_getEntry : yJ1_getEntry.cls ≠ "java/lang/invoke/MethodHandle" ∧ yJ1_getEntry.cls ≠ "java/lang/invoke/VarHandle" ∧ (parseMethodDescriptor yJ1_getEntry.desc).map (fun d => d.parameters.length) = some 1 := by decide +kernel
set_option maxHeartbeats 4000000 in
set_option maxRecDepth 100000 in
theorem R_J1_getEntry (l : Launch) (hl : l.stackTraces = false) (G : xG) (hG : G.1.2 = x_cl) (a0 : Nat) (x1 : Option Nat) (σ : xS) (K : Option Nat → xH → Prop) (hp : P_J1_getEntry G.2 a0 x1 σ K) : xM l yJ1_getEntry cJ1_getEntry 5 (Option.some (Jvm.ClassFile.FieldType.object "java/util/TreeMap$Entry")) 5 112 G [(.ref a0), va_rf x1] σ (xlift emQ K) := by
  refine x_entry (by decide) (by simp [lg_sl, x_catq, x_cati, x_catr, x_catn]) ?_
  intro p e s m args below meth c X hr hin
  have X : xX p s m args meth c G cJ1_getEntry 5 RJ1 := X
  have hx := X.1
  have hb := X.2.1
  have hts := X.2.2.2.2.1
  have hown := X.2.2.2.1
  unfold P_J1_getEntry at hp
  refine x_same (lo' := [(0, .ref a0), (1, va_rf x1)]) (by simp [lv_args, x_catq, x_cati, x_catr, x_catn]) ?_
  refine x_up (pc' := 1) (fun _ _ _ _ _ L => lv_aload_n hx hb dJ1_getEntry_0 rfl (lv_at L 0 rfl)) ?_
  refine x_gq X (kJ1 hG) 2 (by decide) q187 (fun _ h => h) dJ1_getEntry_1 hp (fun v1 hp1 => ?_)
  refine x_pc (pc' := 4) rfl ?_
  rcases v1 with _ | b2
  · have hp2 := hp1.1 rfl
    refine x_up (pc' := 13) (fun _ _ _ _ _ L => lv_ifnullN (tgt := 13) hx hb dJ1_getEntry_4 (by decide)) ?_
    refine x_up (pc' := 14) (fun _ _ _ _ _ L => lv_aloadq_n hx hb dJ1_getEntry_13 rfl (lv_at L 1 rfl)) ?_
    refine x_callS (em := emQ) (fun r st => va_rf r :: st) (fun _ _ => rfl) 1 X (fun σ' KK h => R_J16_requireNonNull l hl G hG x1 σ' KK h) (lw_S q1662 q1663 q121 q1664) mdJ16_requireNonNull ⟨Nat.le_of_ble_eq_true rfl, Nat.le_of_ble_eq_true rfl⟩ rfl rfl (Nat.le_of_ble_eq_true rfl) dJ1_getEntry_14 hp2 (fun v3 σ4 hp3 => ?_)
    refine x_pc (pc' := 17) rfl ?_
    refine x_up (pc' := 18) (fun _ _ _ _ _ L => lv_pop hx hb dJ1_getEntry_17 (x_catq _)) ?_
    refine x_up (pc' := 19) (fun _ _ _ _ _ L => lv_aloadq_n hx hb dJ1_getEntry_18 rfl (lv_at L 1 rfl)) ?_
    obtain ⟨b5, rfl, hp4⟩ := hp3
    refine x_castY X (kJ23 hG) q1400 q1405 hp4.1 dJ1_getEntry_19 ?_
    have hp5 := hp4.2
    refine x_pc (pc' := 22) rfl ?_
    refine x_upL (pc' := 23) (lo' := [(2, .ref b5), (0, .ref a0), (1, .ref b5)]) (fun _ _ _ _ _ L => lv_astore_n hx hb dJ1_getEntry_22 rfl L (by decide) rfl) ?_
    refine x_up (pc' := 24) (fun _ _ _ _ _ L => lv_aload_n hx hb dJ1_getEntry_23 rfl (lv_at L 1 rfl)) ?_
    refine x_gq X (kJ1 hG) 3 (by decide) q188 (fun _ h => h) dJ1_getEntry_24 hp5 (fun v6 hp6 => ?_)
    refine x_pc (pc' := 27) rfl ?_
    refine x_upL (pc' := 28) (lo' := [(3, va_rf v6), (2, .ref b5), (0, .ref a0), (1, .ref b5)]) (fun _ _ _ _ _ L => lv_astoreq_n hx hb dJ1_getEntry_27 rfl L (by decide) rfl) ?_
    refine x_lo (lo' := [(3, va_rf v6), (2, .ref b5)]) [0, 1] rfl ?_
    refine x_while (v0 := v6) (fun w7 => [(3, va_rf w7), (2, .ref b5)]) hp6 (fun self8 hself9 => ?_)
    rintro y11 σ10 hp7
    unfold B_J1_getEntry_28 at hp7
    refine x_same (lo' := [(3, va_rf y11), (2, .ref b5)]) rfl ?_
    refine x_up (pc' := 29) (fun _ _ _ _ _ L => lv_aloadq_n hx hb dJ1_getEntry_28 rfl (lv_at L 0 rfl)) ?_
    rcases y11 with _ | b12
    · have hp8 := hp7.1 rfl
      refine x_up (pc' := 75) (fun _ _ _ _ _ L => lv_ifnullN (tgt := 75) hx hb dJ1_getEntry_29 (by decide)) ?_
      refine x_up (pc' := 76) (fun _ _ _ _ _ L => lv_null hx hb dJ1_getEntry_75) ?_
      exact x_aret X hr (Or.inl ⟨_, rfl⟩) dJ1_getEntry_76 none hp8
    · have hp9 := hp7.2 _ rfl
      refine x_up (pc' := 32) (fun _ _ _ _ _ L => lv_ifnull hx hb dJ1_getEntry_29) ?_
      refine x_up (pc' := 33) (fun _ _ _ _ _ L => lv_aload_n hx hb dJ1_getEntry_32 rfl (lv_at L 1 rfl)) ?_
      refine x_up (pc' := 34) (fun _ _ _ _ _ L => lv_aload_n hx hb dJ1_getEntry_33 rfl (lv_at L 0 rfl)) ?_
      refine x_gq X (kJ31 hG) 0 (by decide) q1299 (fun _ h => h) dJ1_getEntry_34 hp9 (fun v13 hp10 => ?_)
      refine x_pc (pc' := 37) rfl ?_
      refine x_callF (x := ⟨"java/lang/Comparable", "compareTo", "(Ljava/lang/Object;)I"⟩) (em := emI) (fun r st => .int r :: st) (fun _ _ => rfl) 1 X (kJ23 hG) (fun σ' KK h => R_J23_compareTo l hl G hG b5 v13 σ' KK h) q1402 q1406 q1408 q128 q1410 ⟨⟨q1404, q1403, q1409, q1407, q1405⟩, by decide, by decide⟩ (by decide +kernel) ⟨Nat.le_of_ble_eq_true rfl, Nat.le_of_ble_eq_true rfl⟩ rfl rfl (Nat.le_of_ble_eq_true rfl) dJ1_getEntry_37 hp10.1 hp10.2 (fun v14 σ15 hp11 => ?_)
      refine x_pc (pc' := 42) rfl ?_
      refine x_upL (pc' := 44) (lo' := [(4, .int v14), (3, .ref b12), (2, .ref b5)]) (fun _ _ _ _ _ L => lv_istore hx hb dJ1_getEntry_42 L (by decide) rfl) ?_
      refine x_up (pc' := 46) (fun _ _ _ _ _ L => lv_iload hx hb dJ1_getEntry_44 (lv_at L 0 rfl)) ?_
      refine x_if (C := 0 ≤ v14) (pt := 57) (pc' := 49) (fun _ _ _ _ _ => lv_if_ge (tgt := 57) hx hb dJ1_getEntry_46 (by decide)) (fun c46 => ?_) (fun c46 => ?_)
      · have hp12 := hp11.1 c46
        refine x_up (pc' := 59) (fun _ _ _ _ _ L => lv_iload hx hb dJ1_getEntry_57 (lv_at L 0 rfl)) ?_
        refine x_if (C := v14 ≤ 0) (pt := 70) (pc' := 62) (fun _ _ _ _ _ => lv_if_le (tgt := 70) hx hb dJ1_getEntry_59 (by decide)) (fun c59 => ?_) (fun c59 => ?_)
        · have hp13 := hp12.1 c59
          refine x_up (pc' := 71) (fun _ _ _ _ _ L => lv_aload_n hx hb dJ1_getEntry_70 rfl (lv_at L 1 rfl)) ?_
          exact x_aret X hr (Or.inl ⟨_, rfl⟩) dJ1_getEntry_71 (some b12) hp13
        · have hp14 := hp12.2 c59
          refine x_up (pc' := 63) (fun _ _ _ _ _ L => lv_aload_n hx hb dJ1_getEntry_62 rfl (lv_at L 1 rfl)) ?_
          refine x_gq X (kJ31 hG) 3 (by decide) q1303 (fun _ h => h) dJ1_getEntry_63 hp14 (fun v16 hp15 => ?_)
          refine x_pc (pc' := 66) rfl ?_
          refine x_upL (pc' := 67) (lo' := [(3, va_rf v16), (4, .int v14), (2, .ref b5)]) (fun _ _ _ _ _ L => lv_astoreq_n hx hb dJ1_getEntry_66 rfl L (by decide) rfl) ?_
          refine x_up (pc' := 72) (fun _ _ _ _ _ L => lv_goto (tgt := 72) hx hb dJ1_getEntry_67 (by decide)) ?_
          refine x_up (pc' := 28) (fun _ _ _ _ _ L => lv_goto (tgt := 28) hx hb dJ1_getEntry_72 (by decide)) ?_
          refine x_lo (lo' := [(3, va_rf v16), (2, .ref b5)]) [0, 2] rfl ?_
          exact hself9 v16 σ15 hp15
      · have hp16 := hp11.2 c46
        refine x_up (pc' := 50) (fun _ _ _ _ _ L => lv_aload_n hx hb dJ1_getEntry_49 rfl (lv_at L 1 rfl)) ?_
        refine x_gq X (kJ31 hG) 2 (by decide) q1302 (fun _ h => h) dJ1_getEntry_50 hp16 (fun v17 hp17 => ?_)
        refine x_pc (pc' := 53) rfl ?_
        refine x_upL (pc' := 54) (lo' := [(3, va_rf v17), (4, .int v14), (2, .ref b5)]) (fun _ _ _ _ _ L => lv_astoreq_n hx hb dJ1_getEntry_53 rfl L (by decide) rfl) ?_
        refine x_up (pc' := 72) (fun _ _ _ _ _ L => lv_goto (tgt := 72) hx hb dJ1_getEntry_54 (by decide)) ?_
        refine x_up (pc' := 28) (fun _ _ _ _ _ L => lv_goto (tgt := 28) hx hb dJ1_getEntry_72 (by decide)) ?_
        refine x_lo (lo' := [(3, va_rf v17), (2, .ref b5)]) [0, 2] rfl ?_
        exact hself9 v17 σ15 hp17
  · have hp18 := hp1.2 _ rfl
    refine x_up (pc' := 7) (fun _ _ _ _ _ L => lv_ifnull hx hb dJ1_getEntry_4) ?_
    refine x_up (pc' := 8) (fun _ _ _ _ _ L => lv_aload_n hx hb dJ1_getEntry_7 rfl (lv_at L 0 rfl)) ?_
    refine x_up (pc' := 9) (fun _ _ _ _ _ L => lv_aloadq_n hx hb dJ1_getEntry_8 rfl (lv_at L 1 rfl)) ?_
    refine x_callV (em := emQ) (fun r st => va_rf r :: st) (fun _ _ => rfl) 1 X (kJ1 hG) (fun σ' KK h => R_J1_getEntryUsingComparator l hl G hG a0 x1 σ' KK h) (lw_V q2685 q2686 q2687 q102 q2688) ⟨rfl, mdJ1_getEntryUsingComparator⟩ ⟨Nat.le_of_ble_eq_true rfl, Nat.le_of_ble_eq_true rfl⟩ rfl rfl (Nat.le_of_ble_eq_true rfl) dJ1_getEntry_9 hp18.1 hp18.2 (fun v18 σ19 hp19 => ?_)
    refine x_pc (pc' := 12) rfl ?_
    exact x_aret X hr (Or.inl ⟨_, rfl⟩) dJ1_getEntry_12 v18 hp19
-- J1_containsKey
def P_J1_containsKey (κ : Nat → Nat) (a0 : Nat) (x1 : Option Nat) (σ : xS) (K : Int32 → xH → Prop) : Prop :=
  xrc σ a0 2 ∧ xcall (fun τ L => P_J1_getEntry κ a0 x1 τ L) σ fun v1 σ2 => ((v1 = none → (K (0 : Int32) σ2.1)) ∧ (∀ b3 : Nat, v1 = some b3 → (K (1 : Int32) σ2.1)))
theorem mdJ1_containsKey : yJ1_containsKey.cls ≠ "java/lang/invoke/MethodHandle" ∧ yJ1_containsKey.cls ≠ "java/lang/invoke/VarHandle" ∧ (parseMethodDescriptor yJ1_containsKey.desc).map (fun d => d.parameters.length) = some 1 := by decide +kernel
set_option maxHeartbeats 4000000 in
set_option maxRecDepth 100000 in
theorem R_J1_containsKey (l : Launch) (hl : l.stackTraces = false) (G : xG) (hG : G.1.2 = x_cl) (a0 : Nat) (x1 : Option Nat) (σ : xS) (K : Int32 → xH → Prop) (hp : P_J1_containsKey G.2 a0 x1 σ K) : xM l yJ1_containsKey cJ1_containsKey 2 (Option.some Jvm.ClassFile.FieldType.boolean) 6 136 G [(.ref a0), va_rf x1] σ (xlift emI K) := by
  refine x_entry (by decide) (by simp [lg_sl, x_catq, x_cati, x_catr, x_catn]) ?_
  intro p e s m args below meth c X hr hin
  have X : xX p s m args meth c G cJ1_containsKey 2 RJ1 := X
  have hx := X.1
  have hb := X.2.1
  have hts := X.2.2.2.2.1
  have hown := X.2.2.2.1
  unfold P_J1_containsKey at hp
  refine x_same (lo' := [(0, .ref a0), (1, va_rf x1)]) (by simp [lv_args, x_catq, x_cati, x_catr, x_catn]) ?_
  refine x_up (pc' := 1) (fun _ _ _ _ _ L => lv_aload_n hx hb dJ1_containsKey_0 rfl (lv_at L 0 rfl)) ?_
  refine x_up (pc' := 2) (fun _ _ _ _ _ L => lv_aloadq_n hx hb dJ1_containsKey_1 rfl (lv_at L 1 rfl)) ?_
  refine x_callV (em := emQ) (fun r st => va_rf r :: st) (fun _ _ => rfl) 1 X (kJ1 hG) (fun σ' KK h => R_J1_getEntry l hl G hG a0 x1 σ' KK h) (lw_V q2681 q2682 q2683 q102 q2684) ⟨rfl, mdJ1_getEntry⟩ ⟨Nat.le_of_ble_eq_true rfl, Nat.le_of_ble_eq_true rfl⟩ rfl rfl (Nat.le_of_ble_eq_true rfl) dJ1_containsKey_2 hp.1 hp.2 (fun v1 σ2 hp1 => ?_)
  refine x_pc (pc' := 5) rfl ?_
  rcases v1 with _ | b3
  · have hp2 := hp1.1 rfl
    refine x_up (pc' := 12) (fun _ _ _ _ _ L => lv_ifnullN (tgt := 12) hx hb dJ1_containsKey_5 (by decide)) ?_
    refine x_up (pc' := 13) (fun _ _ _ _ _ L => lv_iconst (v := (0 : Int32)) hx hb dJ1_containsKey_12 (by decide)) ?_
    exact x_iret X hr rfl dJ1_containsKey_13 hp2
  · have hp3 := hp1.2 _ rfl
    refine x_up (pc' := 8) (fun _ _ _ _ _ L => lv_ifnull hx hb dJ1_containsKey_5) ?_
    refine x_up (pc' := 9) (fun _ _ _ _ _ L => lv_iconst (v := (1 : Int32)) hx hb dJ1_containsKey_8 (by decide)) ?_
    refine x_up (pc' := 13) (fun _ _ _ _ _ L => lv_goto (tgt := 13) hx hb dJ1_containsKey_9 (by decide)) ?_
    exact x_iret X hr rfl dJ1_containsKey_13 hp3
-- J1_get
def P_J1_get (κ : Nat → Nat) (a0 : Nat) (x1 : Option Nat) (σ : xS) (K : Option Nat → xH → Prop) : Prop :=
  xrc σ a0 2 ∧ xcall (fun τ L => P_J1_getEntry κ a0 x1 τ L) σ fun v1 σ2 => ((v1 = none → (K none σ2.1)) ∧ (∀ b3 : Nat, v1 = some b3 → (xgq σ2 b3 19 1 fun v4 => K v4 σ2.1)))
theorem mdJ1_get : yJ1_get.cls ≠ "java/lang/invoke/MethodHandle" ∧ yJ1_get.cls ≠ "java/lang/invoke/VarHandle" ∧ (parseMethodDescriptor yJ1_get.desc).map (fun d => d.parameters.length) = some 1 := by decide +kernel
set_option maxHeartbeats 4000000 in
set_option maxRecDepth 100000 in
theorem R_J1_get (l : Launch) (hl : l.stackTraces = false) (G : xG) (hG : G.1.2 = x_cl) (a0 : Nat) (x1 : Option Nat) (σ : xS) (K : Option Nat → xH → Prop) (hp : P_J1_get G.2 a0 x1 σ K) : xM l yJ1_get cJ1_get 3 (Option.some (Jvm.ClassFile.FieldType.object "java/lang/Object")) 6 136 G [(.ref a0), va_rf x1] σ (xlift emQ K) := by
  refine x_entry (by decide) (by simp [lg_sl, x_catq, x_cati, x_catr, x_catn]) ?_
  intro p e s m args below meth c X hr hin
  have X : xX p s m args meth c G cJ1_get 3 RJ1 := X
  have hx := X.1
  have hb := X.2.1
  have hts := X.2.2.2.2.1
  have hown := X.2.2.2.1
  unfold P_J1_get at hp
  refine x_same (lo' := [(0, .ref a0), (1, va_rf x1)]) (by simp [lv_args, x_catq, x_cati, x_catr, x_catn]) ?_
  refine x_up (pc' := 1) (fun _ _ _ _ _ L => lv_aload_n hx hb dJ1_get_0 rfl (lv_at L 0 rfl)) ?_
  refine x_up (pc' := 2) (fun _ _ _ _ _ L => lv_aloadq_n hx hb dJ1_get_1 rfl (lv_at L 1 rfl)) ?_
  refine x_callV (em := emQ) (fun r st => va_rf r :: st) (fun _ _ => rfl) 1 X (kJ1 hG) (fun σ' KK h => R_J1_getEntry l hl G hG a0 x1 σ' KK h) (lw_V q2681 q2682 q2683 q102 q2684) ⟨rfl, mdJ1_getEntry⟩ ⟨Nat.le_of_ble_eq_true rfl, Nat.le_of_ble_eq_true rfl⟩ rfl rfl (Nat.le_of_ble_eq_true rfl) dJ1_get_2 hp.1 hp.2 (fun v1 σ2 hp1 => ?_)
  refine x_pc (pc' := 5) rfl ?_
  refine x_st (pc' := 6) ([(2, va_rf v1), (0, .ref a0), (1, va_rf x1)]) rfl (by simp [x_catq, x_cati, x_catr, x_catn]) (fun _ _ _ _ _ L => lv_astoreq_n hx hb dJ1_get_5 rfl L (by decide) rfl) ?_
  refine x_up (pc' := 7) (fun _ _ _ _ _ L => lv_aloadq_n hx hb dJ1_get_6 rfl (lv_at L 0 rfl)) ?_
  rcases v1 with _ | b3
  · have hp2 := hp1.1 rfl
    refine x_up (pc' := 10) (fun _ _ _ _ _ L => lv_ifnonnullN hx hb dJ1_get_7) ?_
    refine x_up (pc' := 11) (fun _ _ _ _ _ L => lv_null hx hb dJ1_get_10) ?_
    refine x_up (pc' := 18) (fun _ _ _ _ _ L => lv_goto (tgt := 18) hx hb dJ1_get_11 (by decide)) ?_
    exact x_aret X hr (Or.inl ⟨_, rfl⟩) dJ1_get_18 none hp2
  · have hp3 := hp1.2 _ rfl
    refine x_up (pc' := 14) (fun _ _ _ _ _ L => lv_ifnonnull (tgt := 14) hx hb dJ1_get_7 (by decide)) ?_
    refine x_up (pc' := 15) (fun _ _ _ _ _ L => lv_aload_n hx hb dJ1_get_14 rfl (lv_at L 0 rfl)) ?_
    refine x_gq X (kJ31 hG) 1 (by decide) q1301 (fun _ h => h) dJ1_get_15 hp3 (fun v4 hp4 => ?_)
    refine x_pc (pc' := 18) rfl ?_
    exact x_aret X hr (Or.inl ⟨_, rfl⟩) dJ1_get_18 v4 hp4
-- X1_wordAgain
def P_X1_wordAgain (κ : Nat → Nat) (a0 : Nat) (x1 : Int32) (σ : xS) (K : Int32 → xH → Prop) (KX : Nat → xH → Prop) : Prop :=
  xcallX (fun τ L LX => P_X1_requireAddress κ x1 τ L LX) σ (fun _ σ1 => xgq σ1 a0 0 0 fun v4 => xnn v4 fun b5 => xgq σ1 b5 1 1 fun v6 => xcall (fun τ L => P_J23_valueOf κ x1 τ L) σ1 fun v7 σ8 => xnn v6 fun b9 => xrc σ8 b9 2 ∧ xcall (fun τ L => P_J1_containsKey κ b9 v7 τ L) σ8 fun v10 σ11 => ((v10 = 0 → (K (0 : Int32) σ11.1)) ∧ (¬ v10 = 0 → (xgq σ11 a0 0 0 fun v12 => xnn v12 fun b13 => xgq σ11 b13 1 1 fun v14 => xcall (fun τ L => P_J23_valueOf κ x1 τ L) σ11 fun v15 σ16 => xnn v14 fun b17 => xrc σ16 b17 2 ∧ xcall (fun τ L => P_J1_get κ b17 v15 τ L) σ16 fun v18 σ19 => xnn v18 fun b20 => xrc σ19 b20 14 ∧ xrc σ19 b20 14 ∧ xcall (fun τ L => P_J23_intValue κ b20 τ L) σ19 fun v21 σ22 => K v21 σ22.1)))) (fun q2 σ3 => κ 0 ≤ q2 ∧ ((xrc σ3 q2 16 ∧ (KX q2 σ3.1))))
theorem mdX1_wordAgain : yX1_wordAgain.cls ≠ "java/lang/invoke/MethodHandle" ∧ yX1_wordAgain.cls ≠ "java/lang/invoke/VarHandle" ∧ (parseMethodDescriptor yX1_wordAgain.desc).map (fun d => d.parameters.length) = some 1 := by decide +kernel
set_option maxHeartbeats 4000000 in
set_option maxRecDepth 100000 in
theorem R_X1_wordAgain (l : Launch) (hl : l.stackTraces = false) (G : xG) (hG : G.1.2 = x_cl) (a0 : Nat) (x1 : Int32) (σ : xS) (K : Int32 → xH → Prop) (KX : Nat → xH → Prop) (hp : P_X1_wordAgain G.2 a0 x1 σ K KX) : xMX l yX1_wordAgain cX1_wordAgain 2 (Option.some Jvm.ClassFile.FieldType.int) 8 158 G [(.ref a0), .int x1] σ (xlift emI K) KX := by
  refine x_entryX (by decide) (Nat.le_of_ble_eq_true rfl) ?_
  intro p e s m args below meth c X hr hin hno
  have X : xX p s m args meth c G cX1_wordAgain 2 RX1 := X
  have hx := X.1
  have hb := X.2.1
  have hts := X.2.2.2.2.1
  have hown := X.2.2.2.1
  have hout : ∀ pc, ∀ x ∈ c.exceptionTable.toList, covers x pc = false := fun _ x hx => (hno x hx).elim
  unfold P_X1_wordAgain at hp
  refine x_same (lo' := [(0, .ref a0), (1, .int x1)]) rfl ?_
  refine x_up (pc' := 1) (fun _ _ _ _ _ L => lv_iload_n hx hb dX1_wordAgain_0 rfl (lv_at L 1 rfl)) ?_
  refine x_callSX (em := emV) (fun r st => st) (fun _ _ => rfl) 1 X (fun σ' KK KX h => R_X1_requireAddress l hl G hG x1 σ' KK KX h) (lw_S q2657 q2658 q99 q2659) mdX1_requireAddress ⟨Nat.le_of_ble_eq_true rfl, Nat.le_of_ble_eq_true rfl⟩ rfl rfl (Nat.le_of_ble_eq_true rfl) dX1_wordAgain_1 hp (fun _ σ1 hpA1 => ?_) (fun q2 σ3 hpB1 => ?_)
  · have hp1 := hpA1
    refine x_pc (pc' := 4) rfl ?_
    refine x_up (pc' := 5) (fun _ _ _ _ _ L => lv_aload_n hx hb dX1_wordAgain_4 rfl (lv_at L 0 rfl)) ?_
    refine x_gq X (kX1 hG) 0 (by decide) q589 (fun _ h => h) dX1_wordAgain_5 hp1 (fun v4 hp2 => ?_)
    refine x_pc (pc' := 8) rfl ?_
    obtain ⟨b5, rfl, hp3⟩ := hp2
    refine x_gqN X (kX2 hG) 1 (by decide) q461 (fun _ h => h) dX1_wordAgain_8 hp3 (fun v6 hp4 => ?_)
    refine x_pc (pc' := 11) rfl ?_
    refine x_up (pc' := 12) (fun _ _ _ _ _ L => lv_iload_n hx hb dX1_wordAgain_11 rfl (lv_at L 1 rfl)) ?_
    refine x_callS (em := emQ) (fun r st => va_rf r :: st) (fun _ _ => rfl) 1 X (fun σ' KK h => R_J23_valueOf l hl G hG x1 σ' KK h) (lw_S q2676 q2425 q128 q2426) mdJ23_valueOf ⟨Nat.le_of_ble_eq_true rfl, Nat.le_of_ble_eq_true rfl⟩ rfl rfl (by simp only [List.map_cons, List.map_nil, List.sum_cons, List.sum_nil, x_catq, x_cati, x_catr, x_catn] <;> decide) dX1_wordAgain_12 hp4 (fun v7 σ8 hp5 => ?_)
    refine x_pc (pc' := 15) rfl ?_
    obtain ⟨b9, rfl, hp6⟩ := hp5
    refine x_callV (em := emI) (fun r st => .int r :: st) (fun _ _ => rfl) 1 X (kJ1 hG) (fun σ' KK h => R_J1_containsKey l hl G hG b9 v7 σ' KK h) (lw_V q2677 q2678 q2679 q102 q2680) ⟨rfl, mdJ1_containsKey⟩ ⟨Nat.le_of_ble_eq_true rfl, Nat.le_of_ble_eq_true rfl⟩ rfl rfl (Nat.le_of_ble_eq_true rfl) dX1_wordAgain_15 hp6.1 hp6.2 (fun v10 σ11 hp7 => ?_)
    refine x_pc (pc' := 18) rfl ?_
    refine x_if (C := v10 = 0) (pt := 44) (pc' := 21) (fun _ _ _ _ _ => lv_if_eq (tgt := 44) hx hb dX1_wordAgain_18 (by decide)) (fun c18 => ?_) (fun c18 => ?_)
    · have hp8 := hp7.1 c18
      refine x_up (pc' := 45) (fun _ _ _ _ _ L => lv_iconst (v := (0 : Int32)) hx hb dX1_wordAgain_44 (by decide)) ?_
      refine x_vx ?_; exact x_iret X hr rfl dX1_wordAgain_45 hp8
    · have hp9 := hp7.2 c18
      refine x_up (pc' := 22) (fun _ _ _ _ _ L => lv_aload_n hx hb dX1_wordAgain_21 rfl (lv_at L 0 rfl)) ?_
      refine x_gq X (kX1 hG) 0 (by decide) q589 (fun _ h => h) dX1_wordAgain_22 hp9 (fun v12 hp10 => ?_)
      refine x_pc (pc' := 25) rfl ?_
      obtain ⟨b13, rfl, hp11⟩ := hp10
      refine x_gqN X (kX2 hG) 1 (by decide) q461 (fun _ h => h) dX1_wordAgain_25 hp11 (fun v14 hp12 => ?_)
      refine x_pc (pc' := 28) rfl ?_
      refine x_up (pc' := 29) (fun _ _ _ _ _ L => lv_iload_n hx hb dX1_wordAgain_28 rfl (lv_at L 1 rfl)) ?_
      refine x_callS (em := emQ) (fun r st => va_rf r :: st) (fun _ _ => rfl) 1 X (fun σ' KK h => R_J23_valueOf l hl G hG x1 σ' KK h) (lw_S q2676 q2425 q128 q2426) mdJ23_valueOf ⟨Nat.le_of_ble_eq_true rfl, Nat.le_of_ble_eq_true rfl⟩ rfl rfl (by simp only [List.map_cons, List.map_nil, List.sum_cons, List.sum_nil, x_catq, x_cati, x_catr, x_catn] <;> decide) dX1_wordAgain_29 hp12 (fun v15 σ16 hp13 => ?_)
      refine x_pc (pc' := 32) rfl ?_
      obtain ⟨b17, rfl, hp14⟩ := hp13
      refine x_callV (em := emQ) (fun r st => va_rf r :: st) (fun _ _ => rfl) 1 X (kJ1 hG) (fun σ' KK h => R_J1_get l hl G hG b17 v15 σ' KK h) (lw_V q2689 q2690 q2691 q102 q2692) ⟨rfl, mdJ1_get⟩ ⟨Nat.le_of_ble_eq_true rfl, Nat.le_of_ble_eq_true rfl⟩ rfl rfl (Nat.le_of_ble_eq_true rfl) dX1_wordAgain_32 hp14.1 hp14.2 (fun v18 σ19 hp15 => ?_)
      refine x_pc (pc' := 35) rfl ?_
      obtain ⟨b20, rfl, hp16⟩ := hp15
      refine x_castS X (kJ23 hG) q2693 hp16.1 dX1_wordAgain_35 ?_
      have hp17 := hp16.2
      refine x_pc (pc' := 38) rfl ?_
      refine x_callV (em := emI) (fun r st => .int r :: st) (fun _ _ => rfl) 0 X (kJ23 hG) (fun σ' KK h => R_J23_intValue l hl G hG b20 σ' KK h) (lw_V q2694 q675 q676 q128 q677) ⟨rfl, mdJ23_intValue⟩ ⟨Nat.le_of_ble_eq_true rfl, Nat.le_of_ble_eq_true rfl⟩ rfl rfl (Nat.le_of_ble_eq_true rfl) dX1_wordAgain_38 hp17.1 hp17.2 (fun v21 σ22 hp18 => ?_)
      refine x_pc (pc' := 41) rfl ?_
      refine x_up (pc' := 45) (fun _ _ _ _ _ L => lv_goto (tgt := 45) hx hb dX1_wordAgain_41 (by decide)) ?_
      refine x_vx ?_; exact x_iret X hr rfl dX1_wordAgain_45 hp18
  · have hp19 := hpB1
    obtain ⟨hq1, hp20⟩ := hp19
    obtain ⟨hr1, hp21⟩ := hp20
    exact x_out X (kJ28 hG) (hout 1) hr1 hq1 hp21
-- X1_stored
def P_X1_stored (κ : Nat → Nat) (a0 : Nat) (x1 : Int32) (σ : xS) (K : Int32 → xH → Prop) (KX : Nat → xH → Prop) : Prop :=
  xcallX (fun τ L LX => P_X1_requireAddress κ x1 τ L LX) σ (fun _ σ1 => xgq σ1 a0 0 0 fun v4 => xnn v4 fun b5 => xgq σ1 b5 1 0 fun v6 => xnn v6 fun b7 => xai .int σ1 b7 x1 fun v8 => K v8 σ1.1) (fun q2 σ3 => κ 0 ≤ q2 ∧ ((xrc σ3 q2 16 ∧ (KX q2 σ3.1))))
theorem mdX1_stored : yX1_stored.cls ≠ "java/lang/invoke/MethodHandle" ∧ yX1_stored.cls ≠ "java/lang/invoke/VarHandle" ∧ (parseMethodDescriptor yX1_stored.desc).map (fun d => d.parameters.length) = some 1 := by decide +kernel
set_option maxHeartbeats 4000000 in
set_option maxRecDepth 100000 in
theorem R_X1_stored (l : Launch) (hl : l.stackTraces = false) (G : xG) (hG : G.1.2 = x_cl) (a0 : Nat) (x1 : Int32) (σ : xS) (K : Int32 → xH → Prop) (KX : Nat → xH → Prop) (hp : P_X1_stored G.2 a0 x1 σ K KX) : xMX l yX1_stored cX1_stored 2 (Option.some Jvm.ClassFile.FieldType.int) 8 129 G [(.ref a0), .int x1] σ (xlift emI K) KX := by
  refine x_entryX (by decide) (Nat.le_of_ble_eq_true rfl) ?_
  intro p e s m args below meth c X hr hin hno
  have X : xX p s m args meth c G cX1_stored 2 RX1 := X
  have hx := X.1
  have hb := X.2.1
  have hts := X.2.2.2.2.1
  have hown := X.2.2.2.1
  have hout : ∀ pc, ∀ x ∈ c.exceptionTable.toList, covers x pc = false := fun _ x hx => (hno x hx).elim
  unfold P_X1_stored at hp
  refine x_same (lo' := [(0, .ref a0), (1, .int x1)]) rfl ?_
  refine x_up (pc' := 1) (fun _ _ _ _ _ L => lv_iload_n hx hb dX1_stored_0 rfl (lv_at L 1 rfl)) ?_
  refine x_callSX (em := emV) (fun r st => st) (fun _ _ => rfl) 1 X (fun σ' KK KX h => R_X1_requireAddress l hl G hG x1 σ' KK KX h) (lw_S q2657 q2658 q99 q2659) mdX1_requireAddress ⟨Nat.le_of_ble_eq_true rfl, Nat.le_of_ble_eq_true rfl⟩ rfl rfl (Nat.le_of_ble_eq_true rfl) dX1_stored_1 hp (fun _ σ1 hpA1 => ?_) (fun q2 σ3 hpB1 => ?_)
  · have hp1 := hpA1
    refine x_pc (pc' := 4) rfl ?_
    refine x_up (pc' := 5) (fun _ _ _ _ _ L => lv_aload_n hx hb dX1_stored_4 rfl (lv_at L 0 rfl)) ?_
    refine x_gq X (kX1 hG) 0 (by decide) q589 (fun _ h => h) dX1_stored_5 hp1 (fun v4 hp2 => ?_)
    refine x_pc (pc' := 8) rfl ?_
    obtain ⟨b5, rfl, hp3⟩ := hp2
    refine x_gqN X (kX2 hG) 0 (by decide) q459 (fun _ h => h) dX1_stored_8 hp3 (fun v6 hp4 => ?_)
    refine x_pc (pc' := 11) rfl ?_
    refine x_up (pc' := 12) (fun _ _ _ _ _ L => lv_iload_n hx hb dX1_stored_11 rfl (lv_at L 1 rfl)) ?_
    obtain ⟨b7, rfl, hp5⟩ := hp4
    refine x_iald X dX1_stored_12 hp5 (fun v8 hp6 => ?_)
    refine x_pc (pc' := 13) rfl ?_
    refine x_vx ?_; exact x_iret X hr rfl dX1_stored_13 hp6
  · have hp7 := hpB1
    obtain ⟨hq1, hp8⟩ := hp7
    obtain ⟨hr1, hp9⟩ := hp8
    exact x_out X (kJ28 hG) (hout 1) hr1 hq1 hp9
-- X1_requireSet
def P_X1_requireSet (κ : Nat → Nat) (a0 : Nat) (x1 : Int32) (σ : xS) (K : Unit → xH → Prop) (KX : Nat → xH → Prop) : Prop :=
  xgq σ a0 0 0 fun v1 => xnn v1 fun b2 => xgq σ b2 1 2 fun v3 => xnn v3 fun b4 => xrc σ b4 3 ∧ xcall (fun τ L => P_J4_size κ b4 τ L) σ fun v5 σ6 => xcall (fun τ L => P_X1_isBetween κ x1 (0 : Int32) (v5 - (1 : Int32)) τ L) σ6 fun v7 σ8 => xcallX (fun τ L LX => P_X1_requireIndex κ v7 τ L LX) σ8 (fun _ σ9 => K () σ9.1) (fun q10 σ11 => κ 0 ≤ q10 ∧ ((xrc σ11 q10 16 ∧ (KX q10 σ11.1))))
theorem mdX1_requireSet : yX1_requireSet.cls ≠ "java/lang/invoke/MethodHandle" ∧ yX1_requireSet.cls ≠ "java/lang/invoke/VarHandle" ∧ (parseMethodDescriptor yX1_requireSet.desc).map (fun d => d.parameters.length) = some 1 := by decide +kernel
set_option maxHeartbeats 4000000 in
set_option maxRecDepth 100000 in
theorem R_X1_requireSet (l : Launch) (hl : l.stackTraces = false) (G : xG) (hG : G.1.2 = x_cl) (a0 : Nat) (x1 : Int32) (σ : xS) (K : Unit → xH → Prop) (KX : Nat → xH → Prop) (hp : P_X1_requireSet G.2 a0 x1 σ K KX) : xMX l yX1_requireSet cX1_requireSet 2 (Option.none : Option Jvm.ClassFile.FieldType) 7 109 G [(.ref a0), .int x1] σ (xlift emV K) KX := by
  refine x_entryX (by decide) (Nat.le_of_ble_eq_true rfl) ?_
  intro p e s m args below meth c X hr hin hno
  have X : xX p s m args meth c G cX1_requireSet 2 RX1 := X
  have hx := X.1
  have hb := X.2.1
  have hts := X.2.2.2.2.1
  have hown := X.2.2.2.1
  have hout : ∀ pc, ∀ x ∈ c.exceptionTable.toList, covers x pc = false := fun _ x hx => (hno x hx).elim
  unfold P_X1_requireSet at hp
  refine x_same (lo' := [(0, .ref a0), (1, .int x1)]) rfl ?_
  refine x_up (pc' := 1) (fun _ _ _ _ _ L => lv_iload_n hx hb dX1_requireSet_0 rfl (lv_at L 1 rfl)) ?_
  refine x_up (pc' := 2) (fun _ _ _ _ _ L => lv_iconst (v := (0 : Int32)) hx hb dX1_requireSet_1 (by decide)) ?_
  refine x_up (pc' := 3) (fun _ _ _ _ _ L => lv_aload_n hx hb dX1_requireSet_2 rfl (lv_at L 0 rfl)) ?_
  refine x_gq X (kX1 hG) 0 (by decide) q589 (fun _ h => h) dX1_requireSet_3 hp (fun v1 hp1 => ?_)
  refine x_pc (pc' := 6) rfl ?_
  obtain ⟨b2, rfl, hp2⟩ := hp1
  refine x_gqN X (kX2 hG) 2 (by decide) q463 (fun _ h => h) dX1_requireSet_6 hp2 (fun v3 hp3 => ?_)
  refine x_pc (pc' := 9) rfl ?_
  obtain ⟨b4, rfl, hp4⟩ := hp3
  refine x_callF (x := ⟨"java/util/List", "size", "()I"⟩) (em := emI) (fun r st => .int r :: st) (fun _ _ => rfl) 0 X (kJ4 hG) (fun σ' KK h => R_J4_size l hl G hG b4 σ' KK h) q2715 q2078 q1341 q105 q1342 ⟨⟨q2077, q2076, q2080, q2079, q275⟩, by decide, by decide⟩ (by decide +kernel) ⟨Nat.le_of_ble_eq_true rfl, Nat.le_of_ble_eq_true rfl⟩ rfl rfl (Nat.le_of_ble_eq_true rfl) dX1_requireSet_9 hp4.1 hp4.2 (fun v5 σ6 hp5 => ?_)
  refine x_pc (pc' := 14) rfl ?_
  refine x_up (pc' := 15) (fun _ _ _ _ _ L => lv_iconst (v := (1 : Int32)) hx hb dX1_requireSet_14 (by decide)) ?_
  refine x_up (pc' := 16) (fun _ _ _ _ _ L => lv_isub hx hb dX1_requireSet_15) ?_
  refine x_callS (em := emI) (fun r st => .int r :: st) (fun _ _ => rfl) 3 X (fun σ' KK h => R_X1_isBetween l hl G hG x1 (0 : Int32) (v5 - (1 : Int32)) σ' KK h) (lw_S q2235 q2236 q99 q2237) mdX1_isBetween ⟨Nat.le_of_ble_eq_true rfl, Nat.le_of_ble_eq_true rfl⟩ rfl rfl (Nat.le_of_ble_eq_true rfl) dX1_requireSet_16 hp5 (fun v7 σ8 hp6 => ?_)
  refine x_pc (pc' := 19) rfl ?_
  refine x_callSX (em := emV) (fun r st => st) (fun _ _ => rfl) 1 X (fun σ' KK KX h => R_X1_requireIndex l hl G hG v7 σ' KK KX h) (lw_S q2660 q2661 q99 q2662) mdX1_requireIndex ⟨Nat.le_of_ble_eq_true rfl, Nat.le_of_ble_eq_true rfl⟩ rfl rfl (Nat.le_of_ble_eq_true rfl) dX1_requireSet_19 hp6 (fun _ σ9 hpA19 => ?_) (fun q10 σ11 hpB19 => ?_)
  · have hp7 := hpA19
    refine x_pc (pc' := 22) rfl ?_
    refine x_vx ?_; exact x_vret X hr dX1_requireSet_22 hp7
  · have hp8 := hpB19
    obtain ⟨hq19, hp9⟩ := hp8
    obtain ⟨hr19, hp10⟩ := hp9
    exact x_out X (kJ28 hG) (hout 19) hr19 hq19 hp10
-- X1_lineOf
def P_X1_lineOf (κ : Nat → Nat) (a0 : Nat) (x1 : Int32) (x2 : Int32) (x3 : Int32) (σ : xS) (K : Int32 → xH → Prop) (KX : Nat → xH → Prop) : Prop :=
  xrc σ a0 0 ∧ xcallX (fun τ L LX => P_X1_requireSet κ a0 x1 τ L LX) σ (fun _ σ1 => xgq σ1 a0 0 0 fun v4 => xnn v4 fun b5 => xgi σ1 b5 1 8 fun v6 => xcall (fun τ L => P_X1_isBetween κ x2 (0 : Int32) (v6 - (1 : Int32)) τ L) σ1 fun v7 σ8 => xcallX (fun τ L LX => P_X1_requireIndex κ v7 τ L LX) σ8 (fun _ σ9 => xgq σ9 a0 0 0 fun v12 => xnn v12 fun b13 => xgq σ9 b13 1 2 fun v14 => xnn v14 fun b15 => xrc σ9 b15 3 ∧ xcall (fun τ L => P_J4_get κ b15 x1 τ L) σ9 fun v16 σ17 => xnn v16 fun b18 => xrc σ17 b18 3 ∧ xrc σ17 b18 3 ∧ xcall (fun τ L => P_J4_get κ b18 x2 τ L) σ17 fun v19 σ20 => xnn v19 fun b21 => xrc σ20 b21 5 ∧ ((x3 = (0 : Int32) → (xgi σ20 b21 5 2 fun v29 => K v29 σ20.1)) ∧ (¬ x3 = (0 : Int32) → ((x3 = (1 : Int32) → (xgi σ20 b21 5 3 fun v28 => K v28 σ20.1)) ∧ (¬ x3 = (1 : Int32) → ((x3 = (2 : Int32) → (xgi σ20 b21 5 4 fun v27 => ((v27 = 0 → (K (0 : Int32) σ20.1)) ∧ (¬ v27 = 0 → (K (1 : Int32) σ20.1))))) ∧ (¬ x3 = (2 : Int32) → ((x3 = (3 : Int32) → (xgi σ20 b21 5 5 fun v26 => K v26 σ20.1)) ∧ (¬ x3 = (3 : Int32) → ((x3 = (4 : Int32) → (xgi σ20 b21 5 6 fun v25 => K v25 σ20.1)) ∧ (¬ x3 = (4 : Int32) → ((x3 = (5 : Int32) → (xgi σ20 b21 5 7 fun v24 => K v24 σ20.1)) ∧ (¬ x3 = (5 : Int32) → (xmak κ σ20 17 fun q22 σ23 => κ 0 ≤ q22 ∧ xrc σ23 q22 17 ∧ KX q22 σ23.1)))))))))))))) (fun q10 σ11 => κ 0 ≤ q10 ∧ ((xrc σ11 q10 16 ∧ (KX q10 σ11.1))))) (fun q2 σ3 => κ 0 ≤ q2 ∧ ((xrc σ3 q2 16 ∧ (KX q2 σ3.1))))
theorem mdX1_lineOf : yX1_lineOf.cls ≠ "java/lang/invoke/MethodHandle" ∧ yX1_lineOf.cls ≠ "java/lang/invoke/VarHandle" ∧ (parseMethodDescriptor yX1_lineOf.desc).map (fun d => d.parameters.length) = some 3 := by decide +kernel
set_option maxHeartbeats 4000000 in
set_option maxRecDepth 100000 in
theorem R_X1_lineOf (l : Launch) (hl : l.stackTraces = false) (G : xG) (hG : G.1.2 = x_cl) (a0 : Nat) (x1 : Int32) (x2 : Int32) (x3 : Int32) (σ : xS) (K : Int32 → xH → Prop) (KX : Nat → xH → Prop) (hp : P_X1_lineOf G.2 a0 x1 x2 x3 σ K KX) : xMX l yX1_lineOf cX1_lineOf 5 (Option.some Jvm.ClassFile.FieldType.int) 8 130 G [(.ref a0), .int x1, .int x2, .int x3] σ (xlift emI K) KX := by
  refine x_entryX (by decide) (Nat.le_of_ble_eq_true rfl) ?_
  intro p e s m args below meth c X hr hin hno
  have X : xX p s m args meth c G cX1_lineOf 5 RX1 := X
  have hx := X.1
  have hb := X.2.1
  have hts := X.2.2.2.2.1
  have hown := X.2.2.2.1
  have hout : ∀ pc, ∀ x ∈ c.exceptionTable.toList, covers x pc = false := fun _ x hx => (hno x hx).elim
  unfold P_X1_lineOf at hp
  refine x_same (lo' := [(0, .ref a0), (1, .int x1), (2, .int x2), (3, .int x3)]) rfl ?_
  refine x_up (pc' := 1) (fun _ _ _ _ _ L => lv_aload_n hx hb dX1_lineOf_0 rfl (lv_at L 0 rfl)) ?_
  refine x_up (pc' := 2) (fun _ _ _ _ _ L => lv_iload_n hx hb dX1_lineOf_1 rfl (lv_at L 1 rfl)) ?_
  refine x_callVX (em := emV) (fun r st => st) (fun _ _ => rfl) 1 X (kX1 hG) (fun σ' KK KX h => R_X1_requireSet l hl G hG a0 x1 σ' KK KX h) (lw_V q2710 q2712 qs39 q99 q2713) ⟨rfl, mdX1_requireSet⟩ ⟨Nat.le_of_ble_eq_true rfl, Nat.le_of_ble_eq_true rfl⟩ rfl rfl (Nat.le_of_ble_eq_true rfl) dX1_lineOf_2 hp.1 hp.2 (fun _ σ1 hpA2 => ?_) (fun q2 σ3 hpB2 => ?_)
  · have hp1 := hpA2
    refine x_pc (pc' := 5) rfl ?_
    refine x_up (pc' := 6) (fun _ _ _ _ _ L => lv_iload_n hx hb dX1_lineOf_5 rfl (lv_at L 2 rfl)) ?_
    refine x_up (pc' := 7) (fun _ _ _ _ _ L => lv_iconst (v := (0 : Int32)) hx hb dX1_lineOf_6 (by decide)) ?_
    refine x_up (pc' := 8) (fun _ _ _ _ _ L => lv_aload_n hx hb dX1_lineOf_7 rfl (lv_at L 0 rfl)) ?_
    refine x_gq X (kX1 hG) 0 (by decide) q589 (fun _ h => h) dX1_lineOf_8 hp1 (fun v4 hp2 => ?_)
    refine x_pc (pc' := 11) rfl ?_
    obtain ⟨b5, rfl, hp3⟩ := hp2
    refine x_giN X (kX2 hG) 8 (by decide) q473 (fun _ h => h) dX1_lineOf_11 hp3 (fun v6 hp4 => ?_)
    refine x_pc (pc' := 14) rfl ?_
    refine x_up (pc' := 15) (fun _ _ _ _ _ L => lv_iconst (v := (1 : Int32)) hx hb dX1_lineOf_14 (by decide)) ?_
    refine x_up (pc' := 16) (fun _ _ _ _ _ L => lv_isub hx hb dX1_lineOf_15) ?_
    refine x_callS (em := emI) (fun r st => .int r :: st) (fun _ _ => rfl) 3 X (fun σ' KK h => R_X1_isBetween l hl G hG x2 (0 : Int32) (v6 - (1 : Int32)) σ' KK h) (lw_S q2235 q2236 q99 q2237) mdX1_isBetween ⟨Nat.le_of_ble_eq_true rfl, Nat.le_of_ble_eq_true rfl⟩ rfl rfl (Nat.le_of_ble_eq_true rfl) dX1_lineOf_16 hp4 (fun v7 σ8 hp5 => ?_)
    refine x_pc (pc' := 19) rfl ?_
    refine x_callSX (em := emV) (fun r st => st) (fun _ _ => rfl) 1 X (fun σ' KK KX h => R_X1_requireIndex l hl G hG v7 σ' KK KX h) (lw_S q2660 q2661 q99 q2662) mdX1_requireIndex ⟨Nat.le_of_ble_eq_true rfl, Nat.le_of_ble_eq_true rfl⟩ rfl rfl (Nat.le_of_ble_eq_true rfl) dX1_lineOf_19 hp5 (fun _ σ9 hpA19 => ?_) (fun q10 σ11 hpB19 => ?_)
    · have hp6 := hpA19
      refine x_pc (pc' := 22) rfl ?_
      refine x_up (pc' := 23) (fun _ _ _ _ _ L => lv_aload_n hx hb dX1_lineOf_22 rfl (lv_at L 0 rfl)) ?_
      refine x_gq X (kX1 hG) 0 (by decide) q589 (fun _ h => h) dX1_lineOf_23 hp6 (fun v12 hp7 => ?_)
      refine x_pc (pc' := 26) rfl ?_
      obtain ⟨b13, rfl, hp8⟩ := hp7
      refine x_gqN X (kX2 hG) 2 (by decide) q463 (fun _ h => h) dX1_lineOf_26 hp8 (fun v14 hp9 => ?_)
      refine x_pc (pc' := 29) rfl ?_
      refine x_up (pc' := 30) (fun _ _ _ _ _ L => lv_iload_n hx hb dX1_lineOf_29 rfl (lv_at L 1 rfl)) ?_
      obtain ⟨b15, rfl, hp10⟩ := hp9
      refine x_callF (x := ⟨"java/util/List", "get", "(I)Ljava/lang/Object;"⟩) (em := emQ) (fun r st => va_rf r :: st) (fun _ _ => rfl) 1 X (kJ4 hG) (fun σ' KK h => R_J4_get l hl G hG b15 x1 σ' KK h) q2717 q2086 q784 q105 q785 ⟨⟨q2085, q2084, q2088, q2087, q275⟩, by decide, by decide⟩ (by decide +kernel) ⟨Nat.le_of_ble_eq_true rfl, Nat.le_of_ble_eq_true rfl⟩ rfl rfl (Nat.le_of_ble_eq_true rfl) dX1_lineOf_30 hp10.1 hp10.2 (fun v16 σ17 hp11 => ?_)
      refine x_pc (pc' := 35) rfl ?_
      obtain ⟨b18, rfl, hp12⟩ := hp11
      refine x_castY X (kJ4 hG) q2718 q275 hp12.1 dX1_lineOf_35 ?_
      have hp13 := hp12.2
      refine x_pc (pc' := 38) rfl ?_
      refine x_up (pc' := 39) (fun _ _ _ _ _ L => lv_iload_n hx hb dX1_lineOf_38 rfl (lv_at L 2 rfl)) ?_
      refine x_callF (x := ⟨"java/util/List", "get", "(I)Ljava/lang/Object;"⟩) (em := emQ) (fun r st => va_rf r :: st) (fun _ _ => rfl) 1 X (kJ4 hG) (fun σ' KK h => R_J4_get l hl G hG b18 x2 σ' KK h) q2717 q2086 q784 q105 q785 ⟨⟨q2085, q2084, q2088, q2087, q275⟩, by decide, by decide⟩ (by decide +kernel) ⟨Nat.le_of_ble_eq_true rfl, Nat.le_of_ble_eq_true rfl⟩ rfl rfl (Nat.le_of_ble_eq_true rfl) dX1_lineOf_39 hp13.1 hp13.2 (fun v19 σ20 hp14 => ?_)
      refine x_pc (pc' := 44) rfl ?_
      obtain ⟨b21, rfl, hp15⟩ := hp14
      refine x_castS X (kX3 hG) q2719 hp15.1 dX1_lineOf_44 ?_
      have hp16 := hp15.2
      refine x_pc (pc' := 47) rfl ?_
      refine x_upL (pc' := 49) (lo' := [(4, .ref b21), (0, .ref a0), (1, .int x1), (2, .int x2), (3, .int x3)]) (fun _ _ _ _ _ L => lv_astore hx hb dX1_lineOf_47 L (by decide) rfl) ?_
      refine x_up (pc' := 50) (fun _ _ _ _ _ L => lv_iload_n hx hb dX1_lineOf_49 rfl (lv_at L 4 rfl)) ?_
      by_cases c50_0 : x3 = (0 : Int32)
      · have hp17 := hp16.1 c50_0
        refine x_up (pc' := 88) (fun _ _ _ _ _ L => lv_tableIn (off := 38) (tgt := 88) hx hb dX1_lineOf_50 (by rw [c50_0]; decide) (by rw [c50_0]; decide) (by rw [c50_0]; rfl) (by decide)) ?_
        refine x_up (pc' := 90) (fun _ _ _ _ _ L => lv_aload hx hb dX1_lineOf_88 (lv_at L 0 rfl)) ?_
        refine x_giN X (kX3 hG) 2 (by decide) q300 (fun _ h => h) dX1_lineOf_90 hp17 (fun v22 hp18 => ?_)
        refine x_pc (pc' := 93) rfl ?_
        refine x_vx ?_; exact x_iret X hr rfl dX1_lineOf_93 hp18
      have hp19 := hp16.2 c50_0
      by_cases c50_1 : x3 = (1 : Int32)
      · have hp20 := hp19.1 c50_1
        refine x_up (pc' := 94) (fun _ _ _ _ _ L => lv_tableIn (off := 44) (tgt := 94) hx hb dX1_lineOf_50 (by rw [c50_1]; decide) (by rw [c50_1]; decide) (by rw [c50_1]; rfl) (by decide)) ?_
        refine x_up (pc' := 96) (fun _ _ _ _ _ L => lv_aload hx hb dX1_lineOf_94 (lv_at L 0 rfl)) ?_
        refine x_giN X (kX3 hG) 3 (by decide) q303 (fun _ h => h) dX1_lineOf_96 hp20 (fun v23 hp21 => ?_)
        refine x_pc (pc' := 99) rfl ?_
        refine x_vx ?_; exact x_iret X hr rfl dX1_lineOf_99 hp21
      have hp22 := hp19.2 c50_1
      by_cases c50_2 : x3 = (2 : Int32)
      · have hp23 := hp22.1 c50_2
        refine x_up (pc' := 100) (fun _ _ _ _ _ L => lv_tableIn (off := 50) (tgt := 100) hx hb dX1_lineOf_50 (by rw [c50_2]; decide) (by rw [c50_2]; decide) (by rw [c50_2]; rfl) (by decide)) ?_
        refine x_up (pc' := 102) (fun _ _ _ _ _ L => lv_aload hx hb dX1_lineOf_100 (lv_at L 0 rfl)) ?_
        refine x_giN X (kX3 hG) 4 (by decide) q306 (fun _ h => h) dX1_lineOf_102 hp23 (fun v24 hp24 => ?_)
        refine x_pc (pc' := 105) rfl ?_
        refine x_if (C := v24 = 0) (pt := 112) (pc' := 108) (fun _ _ _ _ _ => lv_if_eq (tgt := 112) hx hb dX1_lineOf_105 (by decide)) (fun c105 => ?_) (fun c105 => ?_)
        · have hp25 := hp24.1 c105
          refine x_up (pc' := 113) (fun _ _ _ _ _ L => lv_iconst (v := (0 : Int32)) hx hb dX1_lineOf_112 (by decide)) ?_
          refine x_vx ?_; exact x_iret X hr rfl dX1_lineOf_113 hp25
        · have hp26 := hp24.2 c105
          refine x_up (pc' := 109) (fun _ _ _ _ _ L => lv_iconst (v := (1 : Int32)) hx hb dX1_lineOf_108 (by decide)) ?_
          refine x_up (pc' := 113) (fun _ _ _ _ _ L => lv_goto (tgt := 113) hx hb dX1_lineOf_109 (by decide)) ?_
          refine x_vx ?_; exact x_iret X hr rfl dX1_lineOf_113 hp26
      have hp27 := hp22.2 c50_2
      by_cases c50_3 : x3 = (3 : Int32)
      · have hp28 := hp27.1 c50_3
        refine x_up (pc' := 114) (fun _ _ _ _ _ L => lv_tableIn (off := 64) (tgt := 114) hx hb dX1_lineOf_50 (by rw [c50_3]; decide) (by rw [c50_3]; decide) (by rw [c50_3]; rfl) (by decide)) ?_
        refine x_up (pc' := 116) (fun _ _ _ _ _ L => lv_aload hx hb dX1_lineOf_114 (lv_at L 0 rfl)) ?_
        refine x_giN X (kX3 hG) 5 (by decide) q309 (fun _ h => h) dX1_lineOf_116 hp28 (fun v25 hp29 => ?_)
        refine x_pc (pc' := 119) rfl ?_
        refine x_vx ?_; exact x_iret X hr rfl dX1_lineOf_119 hp29
      have hp30 := hp27.2 c50_3
      by_cases c50_4 : x3 = (4 : Int32)
      · have hp31 := hp30.1 c50_4
        refine x_up (pc' := 120) (fun _ _ _ _ _ L => lv_tableIn (off := 70) (tgt := 120) hx hb dX1_lineOf_50 (by rw [c50_4]; decide) (by rw [c50_4]; decide) (by rw [c50_4]; rfl) (by decide)) ?_
        refine x_up (pc' := 122) (fun _ _ _ _ _ L => lv_aload hx hb dX1_lineOf_120 (lv_at L 0 rfl)) ?_
        refine x_giN X (kX3 hG) 6 (by decide) q312 (fun _ h => h) dX1_lineOf_122 hp31 (fun v26 hp32 => ?_)
        refine x_pc (pc' := 125) rfl ?_
        refine x_vx ?_; exact x_iret X hr rfl dX1_lineOf_125 hp32
      have hp33 := hp30.2 c50_4
      by_cases c50_5 : x3 = (5 : Int32)
      · have hp34 := hp33.1 c50_5
        refine x_up (pc' := 126) (fun _ _ _ _ _ L => lv_tableIn (off := 76) (tgt := 126) hx hb dX1_lineOf_50 (by rw [c50_5]; decide) (by rw [c50_5]; decide) (by rw [c50_5]; rfl) (by decide)) ?_
        refine x_up (pc' := 128) (fun _ _ _ _ _ L => lv_aload hx hb dX1_lineOf_126 (lv_at L 0 rfl)) ?_
        refine x_giN X (kX3 hG) 7 (by decide) q315 (fun _ h => h) dX1_lineOf_128 hp34 (fun v27 hp35 => ?_)
        refine x_pc (pc' := 131) rfl ?_
        refine x_vx ?_; exact x_iret X hr rfl dX1_lineOf_131 hp35
      have hp36 := hp33.2 c50_5
      refine x_up (pc' := 132) (fun _ _ _ _ _ L => lv_tableOut (tgt := 132) hx hb dX1_lineOf_50 (x_tabOut 0 6 (by decide) (by decide) (by decide) (lt_s (lt_s (lt_s (lt_s (lt_s (lt_s lt_0 c50_0) c50_1) c50_2) c50_3) c50_4) c50_5)) (by decide)) ?_
      refine x_make0 (names := ["java/lang/RuntimeException", "java/lang/Exception"]) X hl (kJ29 hG) (by decide +kernel) (by decide +kernel) q2720 q134 xat_X1_223 xal_X1_223 (by decide +kernel) dX1_lineOf_132 dX1_lineOf_135 dX1_lineOf_136 (Nat.le_of_ble_eq_true rfl) (Nat.le_of_ble_eq_true rfl) (Nat.le_of_ble_eq_true rfl) hp36 (fun q28 σ29 hp37 => ?_)
      refine x_pc (pc' := 139) rfl ?_
      obtain ⟨hq139, hr139, hp38⟩ := hp37
      refine x_athrow X dX1_lineOf_139 ?_
      exact x_out X (kJ29 hG) (hout 139) hr139 hq139 hp38
    · have hp39 := hpB19
      obtain ⟨hq19, hp40⟩ := hp39
      obtain ⟨hr19, hp41⟩ := hp40
      exact x_out X (kJ28 hG) (hout 19) hr19 hq19 hp41
  · have hp42 := hpB2
    obtain ⟨hq2, hp43⟩ := hp42
    obtain ⟨hr2, hp44⟩ := hp43
    exact x_out X (kJ28 hG) (hout 2) hr2 hq2 hp44
-- X1_requireBlock
def P_X1_requireBlock (κ : Nat → Nat) (x0 : Int32) (σ : xS) (K : Unit → xH → Prop) (KX : Nat → xH → Prop) : Prop :=
  xcall (fun τ L => P_X1_isBetween κ x0 (0 : Int32) (15 : Int32) τ L) σ fun v1 σ2 => xcallX (fun τ L LX => P_X1_requireIndex κ v1 τ L LX) σ2 (fun _ σ3 => K () σ3.1) (fun q4 σ5 => κ 0 ≤ q4 ∧ ((xrc σ5 q4 16 ∧ (KX q4 σ5.1))))
theorem mdX1_requireBlock : yX1_requireBlock.cls ≠ "java/lang/invoke/MethodHandle" ∧ yX1_requireBlock.cls ≠ "java/lang/invoke/VarHandle" ∧ (parseMethodDescriptor yX1_requireBlock.desc).map (fun d => d.parameters.length) = some 1 := by decide +kernel
set_option maxHeartbeats 4000000 in
set_option maxRecDepth 100000 in
theorem R_X1_requireBlock (l : Launch) (hl : l.stackTraces = false) (G : xG) (hG : G.1.2 = x_cl) (x0 : Int32) (σ : xS) (K : Unit → xH → Prop) (KX : Nat → xH → Prop) (hp : P_X1_requireBlock G.2 x0 σ K KX) : xMX l yX1_requireBlock cX1_requireBlock 1 (Option.none : Option Jvm.ClassFile.FieldType) 7 109 G [.int x0] σ (xlift emV K) KX := by
  refine x_entryX (by decide) (Nat.le_of_ble_eq_true rfl) ?_
  intro p e s m args below meth c X hr hin hno
  have X : xX p s m args meth c G cX1_requireBlock 1 RX1 := X
  have hx := X.1
  have hb := X.2.1
  have hts := X.2.2.2.2.1
  have hown := X.2.2.2.1
  have hout : ∀ pc, ∀ x ∈ c.exceptionTable.toList, covers x pc = false := fun _ x hx => (hno x hx).elim
  unfold P_X1_requireBlock at hp
  refine x_same (lo' := [(0, .int x0)]) rfl ?_
  refine x_up (pc' := 1) (fun _ _ _ _ _ L => lv_iload_n hx hb dX1_requireBlock_0 rfl (lv_at L 0 rfl)) ?_
  refine x_up (pc' := 2) (fun _ _ _ _ _ L => lv_iconst (v := (0 : Int32)) hx hb dX1_requireBlock_1 (by decide)) ?_
  refine x_up (pc' := 4) (fun _ _ _ _ _ L => lv_bipush (v := (15 : Int32)) hx hb dX1_requireBlock_2 (by decide)) ?_
  refine x_callS (em := emI) (fun r st => .int r :: st) (fun _ _ => rfl) 3 X (fun σ' KK h => R_X1_isBetween l hl G hG x0 (0 : Int32) (15 : Int32) σ' KK h) (lw_S q2235 q2236 q99 q2237) mdX1_isBetween ⟨Nat.le_of_ble_eq_true rfl, Nat.le_of_ble_eq_true rfl⟩ rfl rfl (Nat.le_of_ble_eq_true rfl) dX1_requireBlock_4 hp (fun v1 σ2 hp1 => ?_)
  refine x_pc (pc' := 7) rfl ?_
  refine x_callSX (em := emV) (fun r st => st) (fun _ _ => rfl) 1 X (fun σ' KK KX h => R_X1_requireIndex l hl G hG v1 σ' KK KX h) (lw_S q2660 q2661 q99 q2662) mdX1_requireIndex ⟨Nat.le_of_ble_eq_true rfl, Nat.le_of_ble_eq_true rfl⟩ rfl rfl (Nat.le_of_ble_eq_true rfl) dX1_requireBlock_7 hp1 (fun _ σ3 hpA7 => ?_) (fun q4 σ5 hpB7 => ?_)
  · have hp2 := hpA7
    refine x_pc (pc' := 10) rfl ?_
    refine x_vx ?_; exact x_vret X hr dX1_requireBlock_10 hp2
  · have hp3 := hpB7
    obtain ⟨hq7, hp4⟩ := hp3
    obtain ⟨hr7, hp5⟩ := hp4
    exact x_out X (kJ28 hG) (hout 7) hr7 hq7 hp5
-- X1_requireElement
def P_X1_requireElement (κ : Nat → Nat) (x0 : Int32) (σ : xS) (K : Unit → xH → Prop) (KX : Nat → xH → Prop) : Prop :=
  ((x0 = 0 → (xmak κ σ 18 fun q1 σ2 => κ 0 ≤ q1 ∧ xrc σ2 q1 18 ∧ KX q1 σ2.1)) ∧ (¬ x0 = 0 → (K () σ.1)))
theorem mdX1_requireElement : yX1_requireElement.cls ≠ "java/lang/invoke/MethodHandle" ∧ yX1_requireElement.cls ≠ "java/lang/invoke/VarHandle" ∧ (parseMethodDescriptor yX1_requireElement.desc).map (fun d => d.parameters.length) = some 1 := by decide +kernel
set_option maxHeartbeats 4000000 in
set_option maxRecDepth 100000 in
theorem R_X1_requireElement (l : Launch) (hl : l.stackTraces = false) (G : xG) (hG : G.1.2 = x_cl) (x0 : Int32) (σ : xS) (K : Unit → xH → Prop) (KX : Nat → xH → Prop) (hp : P_X1_requireElement G.2 x0 σ K KX) : xMX l yX1_requireElement cX1_requireElement 1 (Option.none : Option Jvm.ClassFile.FieldType) 6 89 G [.int x0] σ (xlift emV K) KX := by
  refine x_entryX (by decide) (Nat.le_of_ble_eq_true rfl) ?_
  intro p e s m args below meth c X hr hin hno
  have X : xX p s m args meth c G cX1_requireElement 1 RX1 := X
  have hx := X.1
  have hb := X.2.1
  have hts := X.2.2.2.2.1
  have hown := X.2.2.2.1
  have hout : ∀ pc, ∀ x ∈ c.exceptionTable.toList, covers x pc = false := fun _ x hx => (hno x hx).elim
  unfold P_X1_requireElement at hp
  refine x_same (lo' := [(0, .int x0)]) rfl ?_
  refine x_up (pc' := 1) (fun _ _ _ _ _ L => lv_iload_n hx hb dX1_requireElement_0 rfl (lv_at L 0 rfl)) ?_
  refine x_ifn (C := x0 = 0) (pt := 12) (pc' := 4) (fun _ _ _ _ _ => lv_if_ne (tgt := 12) hx hb dX1_requireElement_1 (by decide)) (fun c1 => ?_) (fun c1 => ?_)
  · have hp1 := hp.1 c1
    refine x_make0 (names := ["java/lang/RuntimeException", "java/lang/Exception"]) X hl (kJ30 hG) (by decide +kernel) (by decide +kernel) q2737 q135 xat_X1_12 xal_X1_12 (by decide +kernel) dX1_requireElement_4 dX1_requireElement_7 dX1_requireElement_8 (Nat.le_of_ble_eq_true rfl) (Nat.le_of_ble_eq_true rfl) (Nat.le_of_ble_eq_true rfl) hp1 (fun q1 σ2 hp2 => ?_)
    refine x_pc (pc' := 11) rfl ?_
    obtain ⟨hq11, hr11, hp3⟩ := hp2
    refine x_athrow X dX1_requireElement_11 ?_
    exact x_out X (kJ30 hG) (hout 11) hr11 hq11 hp3
  · have hp4 := hp.2 c1
    refine x_vx ?_; exact x_vret X hr dX1_requireElement_12 hp4
-- X1_holder
def P_X1_holder (κ : Nat → Nat) (a0 : Nat) (x1 : Int32) (σ : xS) (K : Int32 → xH → Prop) (KX : Nat → xH → Prop) : Prop :=
  xcallX (fun τ L LX => P_X1_requireBlock κ x1 τ L LX) σ (fun _ σ1 => xgq σ1 a0 0 0 fun v4 => xnn v4 fun b5 => xrc σ1 b5 1 ∧ xcall (fun τ L => P_X2_holder κ b5 x1 τ L) σ1 fun v6 σ7 => ((v6 = none → (xcallX (fun τ L LX => P_X1_requireElement κ (0 : Int32) τ L LX) σ7 (fun _ σ9 => False) (fun q10 σ11 => κ 0 ≤ q10 ∧ ((xrc σ11 q10 18 ∧ (KX q10 σ11.1)))))) ∧ (∀ b8 : Nat, v6 = some b8 → (xcallX (fun τ L LX => P_X1_requireElement κ (1 : Int32) τ L LX) σ7 (fun _ σ12 => xgi σ12 b8 5 0 fun v15 => K v15 σ12.1) (fun q13 σ14 => κ 0 ≤ q13 ∧ ((xrc σ14 q13 18 ∧ (KX q13 σ14.1)))))))) (fun q2 σ3 => κ 0 ≤ q2 ∧ ((xrc σ3 q2 16 ∧ (KX q2 σ3.1))))
theorem mdX1_holder : yX1_holder.cls ≠ "java/lang/invoke/MethodHandle" ∧ yX1_holder.cls ≠ "java/lang/invoke/VarHandle" ∧ (parseMethodDescriptor yX1_holder.desc).map (fun d => d.parameters.length) = some 1 := by decide +kernel
set_option maxHeartbeats 4000000 in
set_option maxRecDepth 100000 in
theorem R_X1_holder (l : Launch) (hl : l.stackTraces = false) (G : xG) (hG : G.1.2 = x_cl) (a0 : Nat) (x1 : Int32) (σ : xS) (K : Int32 → xH → Prop) (KX : Nat → xH → Prop) (hp : P_X1_holder G.2 a0 x1 σ K KX) : xMX l yX1_holder cX1_holder 3 (Option.some Jvm.ClassFile.FieldType.int) 8 129 G [(.ref a0), .int x1] σ (xlift emI K) KX := by
  refine x_entryX (by decide) (Nat.le_of_ble_eq_true rfl) ?_
  intro p e s m args below meth c X hr hin hno
  have X : xX p s m args meth c G cX1_holder 3 RX1 := X
  have hx := X.1
  have hb := X.2.1
  have hts := X.2.2.2.2.1
  have hown := X.2.2.2.1
  have hout : ∀ pc, ∀ x ∈ c.exceptionTable.toList, covers x pc = false := fun _ x hx => (hno x hx).elim
  unfold P_X1_holder at hp
  refine x_same (lo' := [(0, .ref a0), (1, .int x1)]) rfl ?_
  refine x_up (pc' := 1) (fun _ _ _ _ _ L => lv_iload_n hx hb dX1_holder_0 rfl (lv_at L 1 rfl)) ?_
  refine x_callSX (em := emV) (fun r st => st) (fun _ _ => rfl) 1 X (fun σ' KK KX h => R_X1_requireBlock l hl G hG x1 σ' KK KX h) (lw_S q2730 q2731 q99 q2732) mdX1_requireBlock ⟨Nat.le_of_ble_eq_true rfl, Nat.le_of_ble_eq_true rfl⟩ rfl rfl (Nat.le_of_ble_eq_true rfl) dX1_holder_1 hp (fun _ σ1 hpA1 => ?_) (fun q2 σ3 hpB1 => ?_)
  · have hp1 := hpA1
    refine x_pc (pc' := 4) rfl ?_
    refine x_up (pc' := 5) (fun _ _ _ _ _ L => lv_aload_n hx hb dX1_holder_4 rfl (lv_at L 0 rfl)) ?_
    refine x_gq X (kX1 hG) 0 (by decide) q589 (fun _ h => h) dX1_holder_5 hp1 (fun v4 hp2 => ?_)
    refine x_pc (pc' := 8) rfl ?_
    refine x_up (pc' := 9) (fun _ _ _ _ _ L => lv_iload_n hx hb dX1_holder_8 rfl (lv_at L 1 rfl)) ?_
    obtain ⟨b5, rfl, hp3⟩ := hp2
    refine x_callV (em := emQ) (fun r st => va_rf r :: st) (fun _ _ => rfl) 1 X (kX2 hG) (fun σ' KK h => R_X2_holder l hl G hG b5 x1 σ' KK h) (lw_V q2733 q2067 q2068 q100 q2069) ⟨rfl, mdX2_holder⟩ ⟨Nat.le_of_ble_eq_true rfl, Nat.le_of_ble_eq_true rfl⟩ rfl rfl (Nat.le_of_ble_eq_true rfl) dX1_holder_9 hp3.1 hp3.2 (fun v6 σ7 hp4 => ?_)
    refine x_pc (pc' := 12) rfl ?_
    refine x_upL (pc' := 13) (lo' := [(2, va_rf v6), (0, .ref a0), (1, .int x1)]) (fun _ _ _ _ _ L => lv_astoreq_n hx hb dX1_holder_12 rfl L (by decide) rfl) ?_
    refine x_up (pc' := 14) (fun _ _ _ _ _ L => lv_aloadq_n hx hb dX1_holder_13 rfl (lv_at L 0 rfl)) ?_
    rcases v6 with _ | b8
    · have hp5 := hp4.1 rfl
      refine x_up (pc' := 21) (fun _ _ _ _ _ L => lv_ifnullN (tgt := 21) hx hb dX1_holder_14 (by decide)) ?_
      refine x_up (pc' := 22) (fun _ _ _ _ _ L => lv_iconst (v := (0 : Int32)) hx hb dX1_holder_21 (by decide)) ?_
      refine x_callSX (em := emV) (fun r st => st) (fun _ _ => rfl) 1 X (fun σ' KK KX h => R_X1_requireElement l hl G hG (0 : Int32) σ' KK KX h) (lw_S q2734 q2735 q99 q2736) mdX1_requireElement ⟨Nat.le_of_ble_eq_true rfl, Nat.le_of_ble_eq_true rfl⟩ rfl rfl (Nat.le_of_ble_eq_true rfl) dX1_holder_22 hp5 (fun _ σ9 hpA22 => ?_) (fun q10 σ11 hpB22 => ?_)
      · have hp6 := hpA22
        refine x_pc (pc' := 25) rfl ?_
        refine x_up (pc' := 26) (fun _ _ _ _ _ L => lv_aload_nN hx hb dX1_holder_25 rfl (lv_at L 0 rfl)) ?_
        exact hp6.elim
      · have hp7 := hpB22
        obtain ⟨hq22, hp8⟩ := hp7
        obtain ⟨hr22, hp9⟩ := hp8
        exact x_out X (kJ30 hG) (hout 22) hr22 hq22 hp9
    · have hp10 := hp4.2 _ rfl
      refine x_up (pc' := 17) (fun _ _ _ _ _ L => lv_ifnull hx hb dX1_holder_14) ?_
      refine x_up (pc' := 18) (fun _ _ _ _ _ L => lv_iconst (v := (1 : Int32)) hx hb dX1_holder_17 (by decide)) ?_
      refine x_up (pc' := 22) (fun _ _ _ _ _ L => lv_goto (tgt := 22) hx hb dX1_holder_18 (by decide)) ?_
      refine x_callSX (em := emV) (fun r st => st) (fun _ _ => rfl) 1 X (fun σ' KK KX h => R_X1_requireElement l hl G hG (1 : Int32) σ' KK KX h) (lw_S q2734 q2735 q99 q2736) mdX1_requireElement ⟨Nat.le_of_ble_eq_true rfl, Nat.le_of_ble_eq_true rfl⟩ rfl rfl (Nat.le_of_ble_eq_true rfl) dX1_holder_22 hp10 (fun _ σ12 hpA22 => ?_) (fun q13 σ14 hpB22 => ?_)
      · have hp11 := hpA22
        refine x_pc (pc' := 25) rfl ?_
        refine x_up (pc' := 26) (fun _ _ _ _ _ L => lv_aload_n hx hb dX1_holder_25 rfl (lv_at L 0 rfl)) ?_
        refine x_giN X (kX3 hG) 0 (by decide) q295 (fun _ h => h) dX1_holder_26 hp11 (fun v15 hp12 => ?_)
        refine x_pc (pc' := 29) rfl ?_
        refine x_vx ?_; exact x_iret X hr rfl dX1_holder_29 hp12
      · have hp13 := hpB22
        obtain ⟨hq22, hp14⟩ := hp13
        obtain ⟨hr22, hp15⟩ := hp14
        exact x_out X (kJ30 hG) (hout 22) hr22 hq22 hp15
  · have hp16 := hpB1
    obtain ⟨hq1, hp17⟩ := hp16
    obtain ⟨hr1, hp18⟩ := hp17
    exact x_out X (kJ28 hG) (hout 1) hr1 hq1 hp18
-- X1_comesTo
def P_X1_comesTo (κ : Nat → Nat) (a0 : Nat) (x1 : Int32) (σ : xS) (K : Int32 → xH → Prop) (KX : Nat → xH → Prop) : Prop :=
  xcallX (fun τ L LX => P_X1_requireBlock κ x1 τ L LX) σ (fun _ σ1 => xgq σ1 a0 0 0 fun v4 => xnn v4 fun b5 => xrc σ1 b5 1 ∧ xcall (fun τ L => P_X2_holder κ b5 x1 τ L) σ1 fun v6 σ7 => ((v6 = none → (xcallX (fun τ L LX => P_X1_requireElement κ (1 : Int32) τ L LX) σ7 (fun _ σ9 => xgq σ9 a0 0 0 fun v12 => xnn v12 fun b13 => xrc σ9 b13 1 ∧ xcall (fun τ L => P_X2_comesTo κ b13 x1 τ L) σ9 fun v14 σ15 => ((v14 = none → (xcallX (fun τ L LX => P_X1_requireElement κ (0 : Int32) τ L LX) σ15 (fun _ σ17 => False) (fun q18 σ19 => κ 0 ≤ q18 ∧ ((xrc σ19 q18 18 ∧ (KX q18 σ19.1)))))) ∧ (∀ b16 : Nat, v14 = some b16 → (xcallX (fun τ L LX => P_X1_requireElement κ (1 : Int32) τ L LX) σ15 (fun _ σ20 => xgi σ20 b16 5 0 fun v23 => K v23 σ20.1) (fun q21 σ22 => κ 0 ≤ q21 ∧ ((xrc σ22 q21 18 ∧ (KX q21 σ22.1)))))))) (fun q10 σ11 => κ 0 ≤ q10 ∧ ((xrc σ11 q10 18 ∧ (KX q10 σ11.1)))))) ∧ (∀ b8 : Nat, v6 = some b8 → (xcallX (fun τ L LX => P_X1_requireElement κ (0 : Int32) τ L LX) σ7 (fun _ σ24 => xgq σ24 a0 0 0 fun v27 => xnn v27 fun b28 => xrc σ24 b28 1 ∧ xcall (fun τ L => P_X2_comesTo κ b28 x1 τ L) σ24 fun v29 σ30 => ((v29 = none → (xcallX (fun τ L LX => P_X1_requireElement κ (0 : Int32) τ L LX) σ30 (fun _ σ32 => False) (fun q33 σ34 => κ 0 ≤ q33 ∧ ((xrc σ34 q33 18 ∧ (KX q33 σ34.1)))))) ∧ (∀ b31 : Nat, v29 = some b31 → (xcallX (fun τ L LX => P_X1_requireElement κ (1 : Int32) τ L LX) σ30 (fun _ σ35 => xgi σ35 b31 5 0 fun v38 => K v38 σ35.1) (fun q36 σ37 => κ 0 ≤ q36 ∧ ((xrc σ37 q36 18 ∧ (KX q36 σ37.1)))))))) (fun q25 σ26 => κ 0 ≤ q25 ∧ ((xrc σ26 q25 18 ∧ (KX q25 σ26.1)))))))) (fun q2 σ3 => κ 0 ≤ q2 ∧ ((xrc σ3 q2 16 ∧ (KX q2 σ3.1))))
theorem mdX1_comesTo : yX1_comesTo.cls ≠ "java/lang/invoke/MethodHandle" ∧ yX1_comesTo.cls ≠ "java/lang/invoke/VarHandle" ∧ (parseMethodDescriptor yX1_comesTo.desc).map (fun d => d.parameters.length) = some 1 := by decide +kernel
set_option maxHeartbeats 4000000 in
set_option maxRecDepth 100000 in
theorem R_X1_comesTo (l : Launch) (hl : l.stackTraces = false) (G : xG) (hG : G.1.2 = x_cl) (a0 : Nat) (x1 : Int32) (σ : xS) (K : Int32 → xH → Prop) (KX : Nat → xH → Prop) (hp : P_X1_comesTo G.2 a0 x1 σ K KX) : xMX l yX1_comesTo cX1_comesTo 3 (Option.some Jvm.ClassFile.FieldType.int) 10 238 G [(.ref a0), .int x1] σ (xlift emI K) KX := by
  refine x_entryX (by decide) (Nat.le_of_ble_eq_true rfl) ?_
  intro p e s m args below meth c X hr hin hno
  have X : xX p s m args meth c G cX1_comesTo 3 RX1 := X
  have hx := X.1
  have hb := X.2.1
  have hts := X.2.2.2.2.1
  have hown := X.2.2.2.1
  have hout : ∀ pc, ∀ x ∈ c.exceptionTable.toList, covers x pc = false := fun _ x hx => (hno x hx).elim
  unfold P_X1_comesTo at hp
  refine x_same (lo' := [(0, .ref a0), (1, .int x1)]) rfl ?_
  refine x_up (pc' := 1) (fun _ _ _ _ _ L => lv_iload_n hx hb dX1_comesTo_0 rfl (lv_at L 1 rfl)) ?_
  refine x_callSX (em := emV) (fun r st => st) (fun _ _ => rfl) 1 X (fun σ' KK KX h => R_X1_requireBlock l hl G hG x1 σ' KK KX h) (lw_S q2730 q2731 q99 q2732) mdX1_requireBlock ⟨Nat.le_of_ble_eq_true rfl, Nat.le_of_ble_eq_true rfl⟩ rfl rfl (Nat.le_of_ble_eq_true rfl) dX1_comesTo_1 hp (fun _ σ1 hpA1 => ?_) (fun q2 σ3 hpB1 => ?_)
  · have hp1 := hpA1
    refine x_pc (pc' := 4) rfl ?_
    refine x_up (pc' := 5) (fun _ _ _ _ _ L => lv_aload_n hx hb dX1_comesTo_4 rfl (lv_at L 0 rfl)) ?_
    refine x_gq X (kX1 hG) 0 (by decide) q589 (fun _ h => h) dX1_comesTo_5 hp1 (fun v4 hp2 => ?_)
    refine x_pc (pc' := 8) rfl ?_
    refine x_up (pc' := 9) (fun _ _ _ _ _ L => lv_iload_n hx hb dX1_comesTo_8 rfl (lv_at L 1 rfl)) ?_
    obtain ⟨b5, rfl, hp3⟩ := hp2
    refine x_callV (em := emQ) (fun r st => va_rf r :: st) (fun _ _ => rfl) 1 X (kX2 hG) (fun σ' KK h => R_X2_holder l hl G hG b5 x1 σ' KK h) (lw_V q2733 q2067 q2068 q100 q2069) ⟨rfl, mdX2_holder⟩ ⟨Nat.le_of_ble_eq_true rfl, Nat.le_of_ble_eq_true rfl⟩ rfl rfl (Nat.le_of_ble_eq_true rfl) dX1_comesTo_9 hp3.1 hp3.2 (fun v6 σ7 hp4 => ?_)
    refine x_pc (pc' := 12) rfl ?_
    rcases v6 with _ | b8
    · have hp5 := hp4.1 rfl
      refine x_up (pc' := 15) (fun _ _ _ _ _ L => lv_ifnonnullN hx hb dX1_comesTo_12) ?_
      refine x_up (pc' := 16) (fun _ _ _ _ _ L => lv_iconst (v := (1 : Int32)) hx hb dX1_comesTo_15 (by decide)) ?_
      refine x_up (pc' := 20) (fun _ _ _ _ _ L => lv_goto (tgt := 20) hx hb dX1_comesTo_16 (by decide)) ?_
      refine x_callSX (em := emV) (fun r st => st) (fun _ _ => rfl) 1 X (fun σ' KK KX h => R_X1_requireElement l hl G hG (1 : Int32) σ' KK KX h) (lw_S q2734 q2735 q99 q2736) mdX1_requireElement ⟨Nat.le_of_ble_eq_true rfl, Nat.le_of_ble_eq_true rfl⟩ rfl rfl (Nat.le_of_ble_eq_true rfl) dX1_comesTo_20 hp5 (fun _ σ9 hpA20 => ?_) (fun q10 σ11 hpB20 => ?_)
      · have hp6 := hpA20
        refine x_pc (pc' := 23) rfl ?_
        refine x_up (pc' := 24) (fun _ _ _ _ _ L => lv_aload_n hx hb dX1_comesTo_23 rfl (lv_at L 0 rfl)) ?_
        refine x_gq X (kX1 hG) 0 (by decide) q589 (fun _ h => h) dX1_comesTo_24 hp6 (fun v12 hp7 => ?_)
        refine x_pc (pc' := 27) rfl ?_
        refine x_up (pc' := 28) (fun _ _ _ _ _ L => lv_iload_n hx hb dX1_comesTo_27 rfl (lv_at L 1 rfl)) ?_
        obtain ⟨b13, rfl, hp8⟩ := hp7
        refine x_callV (em := emQ) (fun r st => va_rf r :: st) (fun _ _ => rfl) 1 X (kX2 hG) (fun σ' KK h => R_X2_comesTo l hl G hG b13 x1 σ' KK h) (lw_V q2746 q2275 q2276 q100 q2277) ⟨rfl, mdX2_comesTo⟩ ⟨Nat.le_of_ble_eq_true rfl, Nat.le_of_ble_eq_true rfl⟩ rfl rfl (Nat.le_of_ble_eq_true rfl) dX1_comesTo_28 hp8.1 hp8.2 (fun v14 σ15 hp9 => ?_)
        refine x_pc (pc' := 31) rfl ?_
        refine x_upL (pc' := 32) (lo' := [(2, va_rf v14), (0, .ref a0), (1, .int x1)]) (fun _ _ _ _ _ L => lv_astoreq_n hx hb dX1_comesTo_31 rfl L (by decide) rfl) ?_
        refine x_up (pc' := 33) (fun _ _ _ _ _ L => lv_aloadq_n hx hb dX1_comesTo_32 rfl (lv_at L 0 rfl)) ?_
        rcases v14 with _ | b16
        · have hp10 := hp9.1 rfl
          refine x_up (pc' := 40) (fun _ _ _ _ _ L => lv_ifnullN (tgt := 40) hx hb dX1_comesTo_33 (by decide)) ?_
          refine x_up (pc' := 41) (fun _ _ _ _ _ L => lv_iconst (v := (0 : Int32)) hx hb dX1_comesTo_40 (by decide)) ?_
          refine x_callSX (em := emV) (fun r st => st) (fun _ _ => rfl) 1 X (fun σ' KK KX h => R_X1_requireElement l hl G hG (0 : Int32) σ' KK KX h) (lw_S q2734 q2735 q99 q2736) mdX1_requireElement ⟨Nat.le_of_ble_eq_true rfl, Nat.le_of_ble_eq_true rfl⟩ rfl rfl (Nat.le_of_ble_eq_true rfl) dX1_comesTo_41 hp10 (fun _ σ17 hpA41 => ?_) (fun q18 σ19 hpB41 => ?_)
          · have hp11 := hpA41
            refine x_pc (pc' := 44) rfl ?_
            refine x_up (pc' := 45) (fun _ _ _ _ _ L => lv_aload_nN hx hb dX1_comesTo_44 rfl (lv_at L 0 rfl)) ?_
            exact hp11.elim
          · have hp12 := hpB41
            obtain ⟨hq41, hp13⟩ := hp12
            obtain ⟨hr41, hp14⟩ := hp13
            exact x_out X (kJ30 hG) (hout 41) hr41 hq41 hp14
        · have hp15 := hp9.2 _ rfl
          refine x_up (pc' := 36) (fun _ _ _ _ _ L => lv_ifnull hx hb dX1_comesTo_33) ?_
          refine x_up (pc' := 37) (fun _ _ _ _ _ L => lv_iconst (v := (1 : Int32)) hx hb dX1_comesTo_36 (by decide)) ?_
          refine x_up (pc' := 41) (fun _ _ _ _ _ L => lv_goto (tgt := 41) hx hb dX1_comesTo_37 (by decide)) ?_
          refine x_callSX (em := emV) (fun r st => st) (fun _ _ => rfl) 1 X (fun σ' KK KX h => R_X1_requireElement l hl G hG (1 : Int32) σ' KK KX h) (lw_S q2734 q2735 q99 q2736) mdX1_requireElement ⟨Nat.le_of_ble_eq_true rfl, Nat.le_of_ble_eq_true rfl⟩ rfl rfl (Nat.le_of_ble_eq_true rfl) dX1_comesTo_41 hp15 (fun _ σ20 hpA41 => ?_) (fun q21 σ22 hpB41 => ?_)
          · have hp16 := hpA41
            refine x_pc (pc' := 44) rfl ?_
            refine x_up (pc' := 45) (fun _ _ _ _ _ L => lv_aload_n hx hb dX1_comesTo_44 rfl (lv_at L 0 rfl)) ?_
            refine x_giN X (kX3 hG) 0 (by decide) q295 (fun _ h => h) dX1_comesTo_45 hp16 (fun v23 hp17 => ?_)
            refine x_pc (pc' := 48) rfl ?_
            refine x_vx ?_; exact x_iret X hr rfl dX1_comesTo_48 hp17
          · have hp18 := hpB41
            obtain ⟨hq41, hp19⟩ := hp18
            obtain ⟨hr41, hp20⟩ := hp19
            exact x_out X (kJ30 hG) (hout 41) hr41 hq41 hp20
      · have hp21 := hpB20
        obtain ⟨hq20, hp22⟩ := hp21
        obtain ⟨hr20, hp23⟩ := hp22
        exact x_out X (kJ30 hG) (hout 20) hr20 hq20 hp23
    · have hp24 := hp4.2 _ rfl
      refine x_up (pc' := 19) (fun _ _ _ _ _ L => lv_ifnonnull (tgt := 19) hx hb dX1_comesTo_12 (by decide)) ?_
      refine x_up (pc' := 20) (fun _ _ _ _ _ L => lv_iconst (v := (0 : Int32)) hx hb dX1_comesTo_19 (by decide)) ?_
      refine x_callSX (em := emV) (fun r st => st) (fun _ _ => rfl) 1 X (fun σ' KK KX h => R_X1_requireElement l hl G hG (0 : Int32) σ' KK KX h) (lw_S q2734 q2735 q99 q2736) mdX1_requireElement ⟨Nat.le_of_ble_eq_true rfl, Nat.le_of_ble_eq_true rfl⟩ rfl rfl (Nat.le_of_ble_eq_true rfl) dX1_comesTo_20 hp24 (fun _ σ24 hpA20 => ?_) (fun q25 σ26 hpB20 => ?_)
      · have hp25 := hpA20
        refine x_pc (pc' := 23) rfl ?_
        refine x_up (pc' := 24) (fun _ _ _ _ _ L => lv_aload_n hx hb dX1_comesTo_23 rfl (lv_at L 0 rfl)) ?_
        refine x_gq X (kX1 hG) 0 (by decide) q589 (fun _ h => h) dX1_comesTo_24 hp25 (fun v27 hp26 => ?_)
        refine x_pc (pc' := 27) rfl ?_
        refine x_up (pc' := 28) (fun _ _ _ _ _ L => lv_iload_n hx hb dX1_comesTo_27 rfl (lv_at L 1 rfl)) ?_
        obtain ⟨b28, rfl, hp27⟩ := hp26
        refine x_callV (em := emQ) (fun r st => va_rf r :: st) (fun _ _ => rfl) 1 X (kX2 hG) (fun σ' KK h => R_X2_comesTo l hl G hG b28 x1 σ' KK h) (lw_V q2746 q2275 q2276 q100 q2277) ⟨rfl, mdX2_comesTo⟩ ⟨Nat.le_of_ble_eq_true rfl, Nat.le_of_ble_eq_true rfl⟩ rfl rfl (Nat.le_of_ble_eq_true rfl) dX1_comesTo_28 hp27.1 hp27.2 (fun v29 σ30 hp28 => ?_)
        refine x_pc (pc' := 31) rfl ?_
        refine x_upL (pc' := 32) (lo' := [(2, va_rf v29), (0, .ref a0), (1, .int x1)]) (fun _ _ _ _ _ L => lv_astoreq_n hx hb dX1_comesTo_31 rfl L (by decide) rfl) ?_
        refine x_up (pc' := 33) (fun _ _ _ _ _ L => lv_aloadq_n hx hb dX1_comesTo_32 rfl (lv_at L 0 rfl)) ?_
        rcases v29 with _ | b31
        · have hp29 := hp28.1 rfl
          refine x_up (pc' := 40) (fun _ _ _ _ _ L => lv_ifnullN (tgt := 40) hx hb dX1_comesTo_33 (by decide)) ?_
          refine x_up (pc' := 41) (fun _ _ _ _ _ L => lv_iconst (v := (0 : Int32)) hx hb dX1_comesTo_40 (by decide)) ?_
          refine x_callSX (em := emV) (fun r st => st) (fun _ _ => rfl) 1 X (fun σ' KK KX h => R_X1_requireElement l hl G hG (0 : Int32) σ' KK KX h) (lw_S q2734 q2735 q99 q2736) mdX1_requireElement ⟨Nat.le_of_ble_eq_true rfl, Nat.le_of_ble_eq_true rfl⟩ rfl rfl (Nat.le_of_ble_eq_true rfl) dX1_comesTo_41 hp29 (fun _ σ32 hpA41 => ?_) (fun q33 σ34 hpB41 => ?_)
          · have hp30 := hpA41
            refine x_pc (pc' := 44) rfl ?_
            refine x_up (pc' := 45) (fun _ _ _ _ _ L => lv_aload_nN hx hb dX1_comesTo_44 rfl (lv_at L 0 rfl)) ?_
            exact hp30.elim
          · have hp31 := hpB41
            obtain ⟨hq41, hp32⟩ := hp31
            obtain ⟨hr41, hp33⟩ := hp32
            exact x_out X (kJ30 hG) (hout 41) hr41 hq41 hp33
        · have hp34 := hp28.2 _ rfl
          refine x_up (pc' := 36) (fun _ _ _ _ _ L => lv_ifnull hx hb dX1_comesTo_33) ?_
          refine x_up (pc' := 37) (fun _ _ _ _ _ L => lv_iconst (v := (1 : Int32)) hx hb dX1_comesTo_36 (by decide)) ?_
          refine x_up (pc' := 41) (fun _ _ _ _ _ L => lv_goto (tgt := 41) hx hb dX1_comesTo_37 (by decide)) ?_
          refine x_callSX (em := emV) (fun r st => st) (fun _ _ => rfl) 1 X (fun σ' KK KX h => R_X1_requireElement l hl G hG (1 : Int32) σ' KK KX h) (lw_S q2734 q2735 q99 q2736) mdX1_requireElement ⟨Nat.le_of_ble_eq_true rfl, Nat.le_of_ble_eq_true rfl⟩ rfl rfl (Nat.le_of_ble_eq_true rfl) dX1_comesTo_41 hp34 (fun _ σ35 hpA41 => ?_) (fun q36 σ37 hpB41 => ?_)
          · have hp35 := hpA41
            refine x_pc (pc' := 44) rfl ?_
            refine x_up (pc' := 45) (fun _ _ _ _ _ L => lv_aload_n hx hb dX1_comesTo_44 rfl (lv_at L 0 rfl)) ?_
            refine x_giN X (kX3 hG) 0 (by decide) q295 (fun _ h => h) dX1_comesTo_45 hp35 (fun v38 hp36 => ?_)
            refine x_pc (pc' := 48) rfl ?_
            refine x_vx ?_; exact x_iret X hr rfl dX1_comesTo_48 hp36
          · have hp37 := hpB41
            obtain ⟨hq41, hp38⟩ := hp37
            obtain ⟨hr41, hp39⟩ := hp38
            exact x_out X (kJ30 hG) (hout 41) hr41 hq41 hp39
      · have hp40 := hpB20
        obtain ⟨hq20, hp41⟩ := hp40
        obtain ⟨hr20, hp42⟩ := hp41
        exact x_out X (kJ30 hG) (hout 20) hr20 hq20 hp42
  · have hp43 := hpB1
    obtain ⟨hq1, hp44⟩ := hp43
    obtain ⟨hr1, hp45⟩ := hp44
    exact x_out X (kJ28 hG) (hout 1) hr1 hq1 hp45
-- X1_giving
def P_X1_giving (κ : Nat → Nat) (a0 : Nat) (x1 : Int32) (x2 : Int32) (σ : xS) (K : Int32 → xH → Prop) (KX : Nat → xH → Prop) : Prop :=
  xrc σ a0 0 ∧ xcallX (fun τ L LX => P_X1_requireSet κ a0 x1 τ L LX) σ (fun _ σ1 => xgq σ1 a0 0 0 fun v4 => xnn v4 fun b5 => xrc σ1 b5 1 ∧ xcall (fun τ L => P_X2_giving κ b5 x1 τ L) σ1 fun v6 σ7 => xnn v6 fun b8 => xrc σ7 b8 3 ∧ xcall (fun τ L => P_J4_size κ b8 τ L) σ7 fun v9 σ10 => xcall (fun τ L => P_X1_isBetween κ x2 (0 : Int32) (v9 - (1 : Int32)) τ L) σ10 fun v11 σ12 => xcallX (fun τ L LX => P_X1_requireElement κ v11 τ L LX) σ12 (fun _ σ13 => xrc σ13 b8 3 ∧ xcall (fun τ L => P_J4_get κ b8 x2 τ L) σ13 fun v16 σ17 => xnn v16 fun b18 => xrc σ17 b18 5 ∧ xgi σ17 b18 5 0 fun v19 => K v19 σ17.1) (fun q14 σ15 => κ 0 ≤ q14 ∧ ((xrc σ15 q14 18 ∧ (KX q14 σ15.1))))) (fun q2 σ3 => κ 0 ≤ q2 ∧ ((xrc σ3 q2 16 ∧ (KX q2 σ3.1))))
theorem mdX1_giving : yX1_giving.cls ≠ "java/lang/invoke/MethodHandle" ∧ yX1_giving.cls ≠ "java/lang/invoke/VarHandle" ∧ (parseMethodDescriptor yX1_giving.desc).map (fun d => d.parameters.length) = some 2 := by decide +kernel
set_option maxHeartbeats 4000000 in
set_option maxRecDepth 100000 in
theorem R_X1_giving (l : Launch) (hl : l.stackTraces = false) (G : xG) (hG : G.1.2 = x_cl) (a0 : Nat) (x1 : Int32) (x2 : Int32) (σ : xS) (K : Int32 → xH → Prop) (KX : Nat → xH → Prop) (hp : P_X1_giving G.2 a0 x1 x2 σ K KX) : xMX l yX1_giving cX1_giving 4 (Option.some Jvm.ClassFile.FieldType.int) 9 215 G [(.ref a0), .int x1, .int x2] σ (xlift emI K) KX := by
  refine x_entryX (by decide) (Nat.le_of_ble_eq_true rfl) ?_
  intro p e s m args below meth c X hr hin hno
  have X : xX p s m args meth c G cX1_giving 4 RX1 := X
  have hx := X.1
  have hb := X.2.1
  have hts := X.2.2.2.2.1
  have hown := X.2.2.2.1
  have hout : ∀ pc, ∀ x ∈ c.exceptionTable.toList, covers x pc = false := fun _ x hx => (hno x hx).elim
  unfold P_X1_giving at hp
  refine x_same (lo' := [(0, .ref a0), (1, .int x1), (2, .int x2)]) rfl ?_
  refine x_up (pc' := 1) (fun _ _ _ _ _ L => lv_aload_n hx hb dX1_giving_0 rfl (lv_at L 0 rfl)) ?_
  refine x_up (pc' := 2) (fun _ _ _ _ _ L => lv_iload_n hx hb dX1_giving_1 rfl (lv_at L 1 rfl)) ?_
  refine x_callVX (em := emV) (fun r st => st) (fun _ _ => rfl) 1 X (kX1 hG) (fun σ' KK KX h => R_X1_requireSet l hl G hG a0 x1 σ' KK KX h) (lw_V q2710 q2712 qs39 q99 q2713) ⟨rfl, mdX1_requireSet⟩ ⟨Nat.le_of_ble_eq_true rfl, Nat.le_of_ble_eq_true rfl⟩ rfl rfl (Nat.le_of_ble_eq_true rfl) dX1_giving_2 hp.1 hp.2 (fun _ σ1 hpA2 => ?_) (fun q2 σ3 hpB2 => ?_)
  · have hp1 := hpA2
    refine x_pc (pc' := 5) rfl ?_
    refine x_up (pc' := 6) (fun _ _ _ _ _ L => lv_aload_n hx hb dX1_giving_5 rfl (lv_at L 0 rfl)) ?_
    refine x_gq X (kX1 hG) 0 (by decide) q589 (fun _ h => h) dX1_giving_6 hp1 (fun v4 hp2 => ?_)
    refine x_pc (pc' := 9) rfl ?_
    refine x_up (pc' := 10) (fun _ _ _ _ _ L => lv_iload_n hx hb dX1_giving_9 rfl (lv_at L 1 rfl)) ?_
    obtain ⟨b5, rfl, hp3⟩ := hp2
    refine x_callV (em := emQ) (fun r st => va_rf r :: st) (fun _ _ => rfl) 1 X (kX2 hG) (fun σ' KK h => R_X2_giving l hl G hG b5 x1 σ' KK h) (lw_V q2754 q2279 q2280 q100 q2281) ⟨rfl, mdX2_giving⟩ ⟨Nat.le_of_ble_eq_true rfl, Nat.le_of_ble_eq_true rfl⟩ rfl rfl (Nat.le_of_ble_eq_true rfl) dX1_giving_10 hp3.1 hp3.2 (fun v6 σ7 hp4 => ?_)
    refine x_pc (pc' := 13) rfl ?_
    refine x_upL (pc' := 14) (lo' := [(3, va_rf v6), (0, .ref a0), (1, .int x1), (2, .int x2)]) (fun _ _ _ _ _ L => lv_astoreq_n hx hb dX1_giving_13 rfl L (by decide) rfl) ?_
    refine x_up (pc' := 15) (fun _ _ _ _ _ L => lv_iload_n hx hb dX1_giving_14 rfl (lv_at L 3 rfl)) ?_
    refine x_up (pc' := 16) (fun _ _ _ _ _ L => lv_iconst (v := (0 : Int32)) hx hb dX1_giving_15 (by decide)) ?_
    refine x_up (pc' := 17) (fun _ _ _ _ _ L => lv_aloadq_n hx hb dX1_giving_16 rfl (lv_at L 0 rfl)) ?_
    obtain ⟨b8, rfl, hp5⟩ := hp4
    refine x_callF (x := ⟨"java/util/List", "size", "()I"⟩) (em := emI) (fun r st => .int r :: st) (fun _ _ => rfl) 0 X (kJ4 hG) (fun σ' KK h => R_J4_size l hl G hG b8 σ' KK h) q2715 q2078 q1341 q105 q1342 ⟨⟨q2077, q2076, q2080, q2079, q275⟩, by decide, by decide⟩ (by decide +kernel) ⟨Nat.le_of_ble_eq_true rfl, Nat.le_of_ble_eq_true rfl⟩ rfl rfl (Nat.le_of_ble_eq_true rfl) dX1_giving_17 hp5.1 hp5.2 (fun v9 σ10 hp6 => ?_)
    refine x_pc (pc' := 22) rfl ?_
    refine x_up (pc' := 23) (fun _ _ _ _ _ L => lv_iconst (v := (1 : Int32)) hx hb dX1_giving_22 (by decide)) ?_
    refine x_up (pc' := 24) (fun _ _ _ _ _ L => lv_isub hx hb dX1_giving_23) ?_
    refine x_callS (em := emI) (fun r st => .int r :: st) (fun _ _ => rfl) 3 X (fun σ' KK h => R_X1_isBetween l hl G hG x2 (0 : Int32) (v9 - (1 : Int32)) σ' KK h) (lw_S q2235 q2236 q99 q2237) mdX1_isBetween ⟨Nat.le_of_ble_eq_true rfl, Nat.le_of_ble_eq_true rfl⟩ rfl rfl (Nat.le_of_ble_eq_true rfl) dX1_giving_24 hp6 (fun v11 σ12 hp7 => ?_)
    refine x_pc (pc' := 27) rfl ?_
    refine x_callSX (em := emV) (fun r st => st) (fun _ _ => rfl) 1 X (fun σ' KK KX h => R_X1_requireElement l hl G hG v11 σ' KK KX h) (lw_S q2734 q2735 q99 q2736) mdX1_requireElement ⟨Nat.le_of_ble_eq_true rfl, Nat.le_of_ble_eq_true rfl⟩ rfl rfl (Nat.le_of_ble_eq_true rfl) dX1_giving_27 hp7 (fun _ σ13 hpA27 => ?_) (fun q14 σ15 hpB27 => ?_)
    · have hp8 := hpA27
      refine x_pc (pc' := 30) rfl ?_
      refine x_up (pc' := 31) (fun _ _ _ _ _ L => lv_aload_n hx hb dX1_giving_30 rfl (lv_at L 0 rfl)) ?_
      refine x_up (pc' := 32) (fun _ _ _ _ _ L => lv_iload_n hx hb dX1_giving_31 rfl (lv_at L 3 rfl)) ?_
      refine x_callF (x := ⟨"java/util/List", "get", "(I)Ljava/lang/Object;"⟩) (em := emQ) (fun r st => va_rf r :: st) (fun _ _ => rfl) 1 X (kJ4 hG) (fun σ' KK h => R_J4_get l hl G hG b8 x2 σ' KK h) q2717 q2086 q784 q105 q785 ⟨⟨q2085, q2084, q2088, q2087, q275⟩, by decide, by decide⟩ (by decide +kernel) ⟨Nat.le_of_ble_eq_true rfl, Nat.le_of_ble_eq_true rfl⟩ rfl rfl (Nat.le_of_ble_eq_true rfl) dX1_giving_32 hp8.1 hp8.2 (fun v16 σ17 hp9 => ?_)
      refine x_pc (pc' := 37) rfl ?_
      obtain ⟨b18, rfl, hp10⟩ := hp9
      refine x_castS X (kX3 hG) q2719 hp10.1 dX1_giving_37 ?_
      have hp11 := hp10.2
      refine x_pc (pc' := 40) rfl ?_
      refine x_giN X (kX3 hG) 0 (by decide) q295 (fun _ h => h) dX1_giving_40 hp11 (fun v19 hp12 => ?_)
      refine x_pc (pc' := 43) rfl ?_
      refine x_vx ?_; exact x_iret X hr rfl dX1_giving_43 hp12
    · have hp13 := hpB27
      obtain ⟨hq27, hp14⟩ := hp13
      obtain ⟨hr27, hp15⟩ := hp14
      exact x_out X (kJ30 hG) (hout 27) hr27 hq27 hp15
  · have hp16 := hpB2
    obtain ⟨hq2, hp17⟩ := hp16
    obtain ⟨hr2, hp18⟩ := hp17
    exact x_out X (kJ28 hG) (hout 2) hr2 hq2 hp18
-- X2_wouldTake
def P_X2_wouldTake (κ : Nat → Nat) (a0 : Nat) (x1 : Int32) (σ : xS) (K : Int32 → xH → Prop) (KX : Nat → xH → Prop) : Prop :=
  xnew κ σ 1 20 [va_rf none, va_rf none, va_rf none, va_rf none, va_rf none, va_rf none, va_rf none, va_rf none, .int 0, .int 0, .int 0, .int 0, .int 0, .int 0, .int 0, .int 0, .int 0, .int 0, .int 0, .int 0] fun q1 σ2 => xcall (fun τ L => P_X2_init_2 κ q1 (some a0) τ L) σ2 fun _ σ3 => xrc σ3 q1 1 ∧ xcallX (fun τ L LX => P_X2_readsWord κ q1 x1 τ L LX) σ3 (fun v4 σ5 => xgi σ5 q1 1 10 fun v8 => xgi σ5 a0 1 10 fun v9 => K (v8 - v9) σ5.1) (fun q6 σ7 => κ 0 ≤ q6 ∧ ((xrc σ7 q6 26 ∧ (K (-1 : Int32) σ7.1))))
theorem mdX2_wouldTake : yX2_wouldTake.cls ≠ "java/lang/invoke/MethodHandle" ∧ yX2_wouldTake.cls ≠ "java/lang/invoke/VarHandle" ∧ (parseMethodDescriptor yX2_wouldTake.desc).map (fun d => d.parameters.length) = some 1 := by decide +kernel
set_option maxHeartbeats 4000000 in
set_option maxRecDepth 100000 in
theorem R_X2_wouldTake (l : Launch) (hl : l.stackTraces = false) (G : xG) (hG : G.1.2 = x_cl) (a0 : Nat) (x1 : Int32) (σ : xS) (K : Int32 → xH → Prop) (KX : Nat → xH → Prop) (hp : P_X2_wouldTake G.2 a0 x1 σ K KX) : xMH l yX2_wouldTake cX2_wouldTake 4 (Option.some Jvm.ClassFile.FieldType.int) [(9, 24, 25, 284)] 16 453 G [(.ref a0), .int x1] σ (xlift emI K) KX := by
  refine x_entryH (by decide) (Nat.le_of_ble_eq_true rfl) ?_
  intro p e s m args below meth c X hr hin hE
  have X : xX p s m args meth c G cX2_wouldTake 4 RX2 := X
  have hx := X.1
  have hb := X.2.1
  have hts := X.2.2.2.2.1
  have hown := X.2.2.2.1
  unfold P_X2_wouldTake at hp
  refine x_same (lo' := [(0, .ref a0), (1, .int x1)]) rfl ?_
  refine x_new X (kX2 hG) q2767 q173 q100 (fs := [va_rf none, va_rf none, va_rf none, va_rf none, va_rf none, va_rf none, va_rf none, va_rf none, .int 0, .int 0, .int 0, .int 0, .int 0, .int 0, .int 0, .int 0, .int 0, .int 0, .int 0, .int 0]) x_dflt_X2 dX2_wouldTake_0 hp (fun q1 σ2 hp1 => ?_)
  refine x_pc (pc' := 3) rfl ?_
  refine x_up (pc' := 4) (fun _ _ _ _ _ L => lv_dup hx hb dX2_wouldTake_3 rfl) ?_
  refine x_up (pc' := 5) (fun _ _ _ _ _ L => lv_aload_n hx hb dX2_wouldTake_4 rfl (lv_at L 0 rfl)) ?_
  refine x_callI 1 X (fun σ' KK h => R_X2_init_2 l hl G hG q1 (some a0) σ' KK h) (lw_meth q617) q100 q2768 q616 rfl mdX2_init_2 ⟨Nat.le_of_ble_eq_true rfl, Nat.le_of_ble_eq_true rfl⟩ rfl rfl (Nat.le_of_ble_eq_true rfl) dX2_wouldTake_5 hp1 (fun σ3 hp2 => ?_)
  refine x_pc (pc' := 8) rfl ?_
  refine x_upL (pc' := 9) (lo' := [(2, .ref q1), (0, .ref a0), (1, .int x1)]) (fun _ _ _ _ _ L => lv_astore_n hx hb dX2_wouldTake_8 rfl L (by decide) rfl) ?_
  refine x_up (pc' := 10) (fun _ _ _ _ _ L => lv_aload_n hx hb dX2_wouldTake_9 rfl (lv_at L 0 rfl)) ?_
  refine x_up (pc' := 11) (fun _ _ _ _ _ L => lv_iload_n hx hb dX2_wouldTake_10 rfl (lv_at L 2 rfl)) ?_
  refine x_callVX (em := emI) (fun r st => .int r :: st) (fun _ _ => rfl) 1 X (kX2 hG) (fun σ' KK KX h => R_X2_readsWord l hl G hG q1 x1 σ' KK KX h) (lw_V q2769 q2226 q2227 q100 q2228) ⟨rfl, mdX2_readsWord⟩ ⟨Nat.le_of_ble_eq_true rfl, Nat.le_of_ble_eq_true rfl⟩ rfl rfl (Nat.le_of_ble_eq_true rfl) dX2_wouldTake_11 hp2.1 hp2.2 (fun v4 σ5 hpA11 => ?_) (fun q6 σ7 hpB11 => ?_)
  · have hp3 := hpA11
    refine x_pc (pc' := 14) rfl ?_
    refine x_upL (pc' := 15) (lo' := [(3, .int v4), (2, .ref q1), (0, .ref a0), (1, .int x1)]) (fun _ _ _ _ _ L => lv_istore_n hx hb dX2_wouldTake_14 rfl L (by decide) rfl) ?_
    refine x_up (pc' := 16) (fun _ _ _ _ _ L => lv_aload_n hx hb dX2_wouldTake_15 rfl (lv_at L 1 rfl)) ?_
    refine x_gi X (kX2 hG) 10 (by decide) q475 (fun _ h => h) dX2_wouldTake_16 hp3 (fun v8 hp4 => ?_)
    refine x_pc (pc' := 19) rfl ?_
    refine x_up (pc' := 20) (fun _ _ _ _ _ L => lv_aload_n hx hb dX2_wouldTake_19 rfl (lv_at L 2 rfl)) ?_
    refine x_gi X (kX2 hG) 10 (by decide) q475 (fun _ h => h) dX2_wouldTake_20 hp4 (fun v9 hp5 => ?_)
    refine x_pc (pc' := 23) rfl ?_
    refine x_up (pc' := 24) (fun _ _ _ _ _ L => lv_isub hx hb dX2_wouldTake_23) ?_
    refine x_vx ?_; exact x_iret X hr rfl dX2_wouldTake_24 hp5
  · have hp6 := hpB11
    obtain ⟨hq11, hp7⟩ := hp6
    obtain ⟨hr11, hp8⟩ := hp7
    refine x_catch X (kX6 hG) [] ({ startPc := 9, endPc := 24, handlerPc := 25, catchType := 284 } : ExceptionTableEntry) [] (hE.trans rfl) (fun _ h => nomatch h) rfl (by decide) q2766 q2242 hr11 hq11 ?_
    refine x_pc (pc' := 25) rfl ?_
    refine x_upL (pc' := 26) (lo' := [(3, .ref q6), (2, .ref q1), (0, .ref a0), (1, .int x1)]) (fun _ _ _ _ _ L => lv_astore_n hx hb dX2_wouldTake_25 rfl L (by decide) rfl) ?_
    refine x_up (pc' := 27) (fun _ _ _ _ _ L => lv_iconst (v := (-1 : Int32)) hx hb dX2_wouldTake_26 (by decide)) ?_
    refine x_vx ?_; exact x_iret X hr rfl dX2_wouldTake_27 hp8
-- X1_existing
def P_X1_existing (κ : Nat → Nat) (x0 : Int32) (σ : xS) (K : Int32 → xH → Prop) (KX : Nat → xH → Prop) : Prop :=
  ((x0 = (-1 : Int32) → (xcallX (fun τ L LX => P_X1_requireElement κ (0 : Int32) τ L LX) σ (fun _ σ1 => K x0 σ1.1) (fun q2 σ3 => κ 0 ≤ q2 ∧ ((xrc σ3 q2 18 ∧ (KX q2 σ3.1)))))) ∧ (¬ x0 = (-1 : Int32) → (xcallX (fun τ L LX => P_X1_requireElement κ (1 : Int32) τ L LX) σ (fun _ σ4 => K x0 σ4.1) (fun q5 σ6 => κ 0 ≤ q5 ∧ ((xrc σ6 q5 18 ∧ (KX q5 σ6.1)))))))
theorem mdX1_existing : yX1_existing.cls ≠ "java/lang/invoke/MethodHandle" ∧ yX1_existing.cls ≠ "java/lang/invoke/VarHandle" ∧ (parseMethodDescriptor yX1_existing.desc).map (fun d => d.parameters.length) = some 1 := by decide +kernel
set_option maxHeartbeats 4000000 in
set_option maxRecDepth 100000 in
theorem R_X1_existing (l : Launch) (hl : l.stackTraces = false) (G : xG) (hG : G.1.2 = x_cl) (x0 : Int32) (σ : xS) (K : Int32 → xH → Prop) (KX : Nat → xH → Prop) (hp : P_X1_existing G.2 x0 σ K KX) : xMX l yX1_existing cX1_existing 1 (Option.some Jvm.ClassFile.FieldType.int) 7 109 G [.int x0] σ (xlift emI K) KX := by
  refine x_entryX (by decide) (Nat.le_of_ble_eq_true rfl) ?_
  intro p e s m args below meth c X hr hin hno
  have X : xX p s m args meth c G cX1_existing 1 RX1 := X
  have hx := X.1
  have hb := X.2.1
  have hts := X.2.2.2.2.1
  have hown := X.2.2.2.1
  have hout : ∀ pc, ∀ x ∈ c.exceptionTable.toList, covers x pc = false := fun _ x hx => (hno x hx).elim
  unfold P_X1_existing at hp
  refine x_same (lo' := [(0, .int x0)]) rfl ?_
  refine x_up (pc' := 1) (fun _ _ _ _ _ L => lv_iload_n hx hb dX1_existing_0 rfl (lv_at L 0 rfl)) ?_
  refine x_up (pc' := 2) (fun _ _ _ _ _ L => lv_iconst (v := (-1 : Int32)) hx hb dX1_existing_1 (by decide)) ?_
  refine x_if (C := x0 = (-1 : Int32)) (pt := 9) (pc' := 5) (fun _ _ _ _ _ => lv_icmp_eq (tgt := 9) hx hb dX1_existing_2 (by decide)) (fun c2 => ?_) (fun c2 => ?_)
  · have hp1 := hp.1 c2
    refine x_up (pc' := 10) (fun _ _ _ _ _ L => lv_iconst (v := (0 : Int32)) hx hb dX1_existing_9 (by decide)) ?_
    refine x_callSX (em := emV) (fun r st => st) (fun _ _ => rfl) 1 X (fun σ' KK KX h => R_X1_requireElement l hl G hG (0 : Int32) σ' KK KX h) (lw_S q2734 q2735 q99 q2736) mdX1_requireElement ⟨Nat.le_of_ble_eq_true rfl, Nat.le_of_ble_eq_true rfl⟩ rfl rfl (Nat.le_of_ble_eq_true rfl) dX1_existing_10 hp1 (fun _ σ1 hpA10 => ?_) (fun q2 σ3 hpB10 => ?_)
    · have hp2 := hpA10
      refine x_pc (pc' := 13) rfl ?_
      refine x_up (pc' := 14) (fun _ _ _ _ _ L => lv_iload_n hx hb dX1_existing_13 rfl (lv_at L 0 rfl)) ?_
      refine x_vx ?_; exact x_iret X hr rfl dX1_existing_14 hp2
    · have hp3 := hpB10
      obtain ⟨hq10, hp4⟩ := hp3
      obtain ⟨hr10, hp5⟩ := hp4
      exact x_out X (kJ30 hG) (hout 10) hr10 hq10 hp5
  · have hp6 := hp.2 c2
    refine x_up (pc' := 6) (fun _ _ _ _ _ L => lv_iconst (v := (1 : Int32)) hx hb dX1_existing_5 (by decide)) ?_
    refine x_up (pc' := 10) (fun _ _ _ _ _ L => lv_goto (tgt := 10) hx hb dX1_existing_6 (by decide)) ?_
    refine x_callSX (em := emV) (fun r st => st) (fun _ _ => rfl) 1 X (fun σ' KK KX h => R_X1_requireElement l hl G hG (1 : Int32) σ' KK KX h) (lw_S q2734 q2735 q99 q2736) mdX1_requireElement ⟨Nat.le_of_ble_eq_true rfl, Nat.le_of_ble_eq_true rfl⟩ rfl rfl (Nat.le_of_ble_eq_true rfl) dX1_existing_10 hp6 (fun _ σ4 hpA10 => ?_) (fun q5 σ6 hpB10 => ?_)
    · have hp7 := hpA10
      refine x_pc (pc' := 13) rfl ?_
      refine x_up (pc' := 14) (fun _ _ _ _ _ L => lv_iload_n hx hb dX1_existing_13 rfl (lv_at L 0 rfl)) ?_
      refine x_vx ?_; exact x_iret X hr rfl dX1_existing_14 hp7
    · have hp8 := hpB10
      obtain ⟨hq10, hp9⟩ := hp8
      obtain ⟨hr10, hp10⟩ := hp9
      exact x_out X (kJ30 hG) (hout 10) hr10 hq10 hp10
-- X1_wouldTake
def P_X1_wouldTake (κ : Nat → Nat) (a0 : Nat) (x1 : Int32) (σ : xS) (K : Int32 → xH → Prop) (KX : Nat → xH → Prop) : Prop :=
  xcallX (fun τ L LX => P_X1_requireAddress κ x1 τ L LX) σ (fun _ σ1 => xgq σ1 a0 0 0 fun v4 => xnn v4 fun b5 => xrc σ1 b5 1 ∧ xcallX (fun τ L LX => P_X2_wouldTake κ b5 x1 τ L LX) σ1 (fun v6 σ7 => xcallX (fun τ L LX => P_X1_existing κ v6 τ L LX) σ7 (fun v10 σ11 => K v10 σ11.1) (fun q12 σ13 => κ 0 ≤ q12 ∧ ((xrc σ13 q12 18 ∧ (KX q12 σ13.1))))) (fun _ _ => False)) (fun q2 σ3 => κ 0 ≤ q2 ∧ ((xrc σ3 q2 16 ∧ (KX q2 σ3.1))))
theorem mdX1_wouldTake : yX1_wouldTake.cls ≠ "java/lang/invoke/MethodHandle" ∧ yX1_wouldTake.cls ≠ "java/lang/invoke/VarHandle" ∧ (parseMethodDescriptor yX1_wouldTake.desc).map (fun d => d.parameters.length) = some 1 := by decide +kernel
set_option maxHeartbeats 4000000 in
set_option maxRecDepth 100000 in
theorem R_X1_wouldTake (l : Launch) (hl : l.stackTraces = false) (G : xG) (hG : G.1.2 = x_cl) (a0 : Nat) (x1 : Int32) (σ : xS) (K : Int32 → xH → Prop) (KX : Nat → xH → Prop) (hp : P_X1_wouldTake G.2 a0 x1 σ K KX) : xMX l yX1_wouldTake cX1_wouldTake 2 (Option.some Jvm.ClassFile.FieldType.int) 17 476 G [(.ref a0), .int x1] σ (xlift emI K) KX := by
  refine x_entryX (by decide) (Nat.le_of_ble_eq_true rfl) ?_
  intro p e s m args below meth c X hr hin hno
  have X : xX p s m args meth c G cX1_wouldTake 2 RX1 := X
  have hx := X.1
  have hb := X.2.1
  have hts := X.2.2.2.2.1
  have hown := X.2.2.2.1
  have hout : ∀ pc, ∀ x ∈ c.exceptionTable.toList, covers x pc = false := fun _ x hx => (hno x hx).elim
  unfold P_X1_wouldTake at hp
  refine x_same (lo' := [(0, .ref a0), (1, .int x1)]) rfl ?_
  refine x_up (pc' := 1) (fun _ _ _ _ _ L => lv_iload_n hx hb dX1_wouldTake_0 rfl (lv_at L 1 rfl)) ?_
  refine x_callSX (em := emV) (fun r st => st) (fun _ _ => rfl) 1 X (fun σ' KK KX h => R_X1_requireAddress l hl G hG x1 σ' KK KX h) (lw_S q2657 q2658 q99 q2659) mdX1_requireAddress ⟨Nat.le_of_ble_eq_true rfl, Nat.le_of_ble_eq_true rfl⟩ rfl rfl (Nat.le_of_ble_eq_true rfl) dX1_wouldTake_1 hp (fun _ σ1 hpA1 => ?_) (fun q2 σ3 hpB1 => ?_)
  · have hp1 := hpA1
    refine x_pc (pc' := 4) rfl ?_
    refine x_up (pc' := 5) (fun _ _ _ _ _ L => lv_aload_n hx hb dX1_wouldTake_4 rfl (lv_at L 0 rfl)) ?_
    refine x_gq X (kX1 hG) 0 (by decide) q589 (fun _ h => h) dX1_wouldTake_5 hp1 (fun v4 hp2 => ?_)
    refine x_pc (pc' := 8) rfl ?_
    refine x_up (pc' := 9) (fun _ _ _ _ _ L => lv_iload_n hx hb dX1_wouldTake_8 rfl (lv_at L 1 rfl)) ?_
    obtain ⟨b5, rfl, hp3⟩ := hp2
    refine x_callVH (em := emI) (fun r st => .int r :: st) (fun _ _ => rfl) 1 X (kX2 hG) (fun σ' KK KX h => R_X2_wouldTake l hl G hG b5 x1 σ' KK KX h) (lw_VW q2762 q2763 q2764 q100 q2765) ⟨rfl, mdX2_wouldTake⟩ ⟨Nat.le_of_ble_eq_true rfl, Nat.le_of_ble_eq_true rfl⟩ rfl rfl (Nat.le_of_ble_eq_true rfl) dX1_wouldTake_9 hp3.1 hp3.2 (fun v6 σ7 hpA9 => ?_) (fun q8 σ9 hpB9 => ?_)
    · have hp4 := hpA9
      refine x_pc (pc' := 12) rfl ?_
      refine x_callSX (em := emI) (fun r st => .int r :: st) (fun _ _ => rfl) 1 X (fun σ' KK KX h => R_X1_existing l hl G hG v6 σ' KK KX h) (lw_S q2770 q2771 q99 q2772) mdX1_existing ⟨Nat.le_of_ble_eq_true rfl, Nat.le_of_ble_eq_true rfl⟩ rfl rfl (Nat.le_of_ble_eq_true rfl) dX1_wouldTake_12 hp4 (fun v10 σ11 hpA12 => ?_) (fun q12 σ13 hpB12 => ?_)
      · have hp5 := hpA12
        refine x_pc (pc' := 15) rfl ?_
        refine x_vx ?_; exact x_iret X hr rfl dX1_wouldTake_15 hp5
      · have hp6 := hpB12
        obtain ⟨hq12, hp7⟩ := hp6
        obtain ⟨hr12, hp8⟩ := hp7
        exact x_out X (kJ30 hG) (hout 12) hr12 hq12 hp8
    · exact hpB9.elim
  · have hp9 := hpB1
    obtain ⟨hq1, hp10⟩ := hp9
    obtain ⟨hr1, hp11⟩ := hp10
    exact x_out X (kJ28 hG) (hout 1) hr1 hq1 hp11
-- X1_causeOf
def P_X1_causeOf (κ : Nat → Nat) (a0 : Nat) (x1 : Int32) (σ : xS) (K : Int32 → xH → Prop) (KX : Nat → xH → Prop) : Prop :=
  xcallX (fun τ L LX => P_X1_requireBlock κ x1 τ L LX) σ (fun _ σ1 => xgq σ1 a0 0 0 fun v4 => xnn v4 fun b5 => xrc σ1 b5 1 ∧ xcall (fun τ L => P_X2_holder κ b5 x1 τ L) σ1 fun v6 σ7 => ((v6 = none → (xcallX (fun τ L LX => P_X1_requireElement κ (1 : Int32) τ L LX) σ7 (fun _ σ9 => xgq σ9 a0 0 0 fun v12 => xnn v12 fun b13 => xrc σ9 b13 1 ∧ xcall (fun τ L => P_X2_causeOf κ b13 x1 τ L) σ9 fun v14 σ15 => K v14 σ15.1) (fun q10 σ11 => κ 0 ≤ q10 ∧ ((xrc σ11 q10 18 ∧ (KX q10 σ11.1)))))) ∧ (∀ b8 : Nat, v6 = some b8 → (xcallX (fun τ L LX => P_X1_requireElement κ (0 : Int32) τ L LX) σ7 (fun _ σ16 => xgq σ16 a0 0 0 fun v19 => xnn v19 fun b20 => xrc σ16 b20 1 ∧ xcall (fun τ L => P_X2_causeOf κ b20 x1 τ L) σ16 fun v21 σ22 => K v21 σ22.1) (fun q17 σ18 => κ 0 ≤ q17 ∧ ((xrc σ18 q17 18 ∧ (KX q17 σ18.1)))))))) (fun q2 σ3 => κ 0 ≤ q2 ∧ ((xrc σ3 q2 16 ∧ (KX q2 σ3.1))))
theorem mdX1_causeOf : yX1_causeOf.cls ≠ "java/lang/invoke/MethodHandle" ∧ yX1_causeOf.cls ≠ "java/lang/invoke/VarHandle" ∧ (parseMethodDescriptor yX1_causeOf.desc).map (fun d => d.parameters.length) = some 1 := by decide +kernel
set_option maxHeartbeats 4000000 in
set_option maxRecDepth 100000 in
theorem R_X1_causeOf (l : Launch) (hl : l.stackTraces = false) (G : xG) (hG : G.1.2 = x_cl) (a0 : Nat) (x1 : Int32) (σ : xS) (K : Int32 → xH → Prop) (KX : Nat → xH → Prop) (hp : P_X1_causeOf G.2 a0 x1 σ K KX) : xMX l yX1_causeOf cX1_causeOf 2 (Option.some Jvm.ClassFile.FieldType.int) 8 129 G [(.ref a0), .int x1] σ (xlift emI K) KX := by
  refine x_entryX (by decide) (Nat.le_of_ble_eq_true rfl) ?_
  intro p e s m args below meth c X hr hin hno
  have X : xX p s m args meth c G cX1_causeOf 2 RX1 := X
  have hx := X.1
  have hb := X.2.1
  have hts := X.2.2.2.2.1
  have hown := X.2.2.2.1
  have hout : ∀ pc, ∀ x ∈ c.exceptionTable.toList, covers x pc = false := fun _ x hx => (hno x hx).elim
  unfold P_X1_causeOf at hp
  refine x_same (lo' := [(0, .ref a0), (1, .int x1)]) rfl ?_
  refine x_up (pc' := 1) (fun _ _ _ _ _ L => lv_iload_n hx hb dX1_causeOf_0 rfl (lv_at L 1 rfl)) ?_
  refine x_callSX (em := emV) (fun r st => st) (fun _ _ => rfl) 1 X (fun σ' KK KX h => R_X1_requireBlock l hl G hG x1 σ' KK KX h) (lw_S q2730 q2731 q99 q2732) mdX1_requireBlock ⟨Nat.le_of_ble_eq_true rfl, Nat.le_of_ble_eq_true rfl⟩ rfl rfl (Nat.le_of_ble_eq_true rfl) dX1_causeOf_1 hp (fun _ σ1 hpA1 => ?_) (fun q2 σ3 hpB1 => ?_)
  · have hp1 := hpA1
    refine x_pc (pc' := 4) rfl ?_
    refine x_up (pc' := 5) (fun _ _ _ _ _ L => lv_aload_n hx hb dX1_causeOf_4 rfl (lv_at L 0 rfl)) ?_
    refine x_gq X (kX1 hG) 0 (by decide) q589 (fun _ h => h) dX1_causeOf_5 hp1 (fun v4 hp2 => ?_)
    refine x_pc (pc' := 8) rfl ?_
    refine x_up (pc' := 9) (fun _ _ _ _ _ L => lv_iload_n hx hb dX1_causeOf_8 rfl (lv_at L 1 rfl)) ?_
    obtain ⟨b5, rfl, hp3⟩ := hp2
    refine x_callV (em := emQ) (fun r st => va_rf r :: st) (fun _ _ => rfl) 1 X (kX2 hG) (fun σ' KK h => R_X2_holder l hl G hG b5 x1 σ' KK h) (lw_V q2733 q2067 q2068 q100 q2069) ⟨rfl, mdX2_holder⟩ ⟨Nat.le_of_ble_eq_true rfl, Nat.le_of_ble_eq_true rfl⟩ rfl rfl (Nat.le_of_ble_eq_true rfl) dX1_causeOf_9 hp3.1 hp3.2 (fun v6 σ7 hp4 => ?_)
    refine x_pc (pc' := 12) rfl ?_
    rcases v6 with _ | b8
    · have hp5 := hp4.1 rfl
      refine x_up (pc' := 15) (fun _ _ _ _ _ L => lv_ifnonnullN hx hb dX1_causeOf_12) ?_
      refine x_up (pc' := 16) (fun _ _ _ _ _ L => lv_iconst (v := (1 : Int32)) hx hb dX1_causeOf_15 (by decide)) ?_
      refine x_up (pc' := 20) (fun _ _ _ _ _ L => lv_goto (tgt := 20) hx hb dX1_causeOf_16 (by decide)) ?_
      refine x_callSX (em := emV) (fun r st => st) (fun _ _ => rfl) 1 X (fun σ' KK KX h => R_X1_requireElement l hl G hG (1 : Int32) σ' KK KX h) (lw_S q2734 q2735 q99 q2736) mdX1_requireElement ⟨Nat.le_of_ble_eq_true rfl, Nat.le_of_ble_eq_true rfl⟩ rfl rfl (Nat.le_of_ble_eq_true rfl) dX1_causeOf_20 hp5 (fun _ σ9 hpA20 => ?_) (fun q10 σ11 hpB20 => ?_)
      · have hp6 := hpA20
        refine x_pc (pc' := 23) rfl ?_
        refine x_up (pc' := 24) (fun _ _ _ _ _ L => lv_aload_n hx hb dX1_causeOf_23 rfl (lv_at L 0 rfl)) ?_
        refine x_gq X (kX1 hG) 0 (by decide) q589 (fun _ h => h) dX1_causeOf_24 hp6 (fun v12 hp7 => ?_)
        refine x_pc (pc' := 27) rfl ?_
        refine x_up (pc' := 28) (fun _ _ _ _ _ L => lv_iload_n hx hb dX1_causeOf_27 rfl (lv_at L 1 rfl)) ?_
        obtain ⟨b13, rfl, hp8⟩ := hp7
        refine x_callV (em := emI) (fun r st => .int r :: st) (fun _ _ => rfl) 1 X (kX2 hG) (fun σ' KK h => R_X2_causeOf l hl G hG b13 x1 σ' KK h) (lw_V q2780 q2421 q2422 q100 q2423) ⟨rfl, mdX2_causeOf⟩ ⟨Nat.le_of_ble_eq_true rfl, Nat.le_of_ble_eq_true rfl⟩ rfl rfl (Nat.le_of_ble_eq_true rfl) dX1_causeOf_28 hp8.1 hp8.2 (fun v14 σ15 hp9 => ?_)
        refine x_pc (pc' := 31) rfl ?_
        refine x_vx ?_; exact x_iret X hr rfl dX1_causeOf_31 hp9
      · have hp10 := hpB20
        obtain ⟨hq20, hp11⟩ := hp10
        obtain ⟨hr20, hp12⟩ := hp11
        exact x_out X (kJ30 hG) (hout 20) hr20 hq20 hp12
    · have hp13 := hp4.2 _ rfl
      refine x_up (pc' := 19) (fun _ _ _ _ _ L => lv_ifnonnull (tgt := 19) hx hb dX1_causeOf_12 (by decide)) ?_
      refine x_up (pc' := 20) (fun _ _ _ _ _ L => lv_iconst (v := (0 : Int32)) hx hb dX1_causeOf_19 (by decide)) ?_
      refine x_callSX (em := emV) (fun r st => st) (fun _ _ => rfl) 1 X (fun σ' KK KX h => R_X1_requireElement l hl G hG (0 : Int32) σ' KK KX h) (lw_S q2734 q2735 q99 q2736) mdX1_requireElement ⟨Nat.le_of_ble_eq_true rfl, Nat.le_of_ble_eq_true rfl⟩ rfl rfl (Nat.le_of_ble_eq_true rfl) dX1_causeOf_20 hp13 (fun _ σ16 hpA20 => ?_) (fun q17 σ18 hpB20 => ?_)
      · have hp14 := hpA20
        refine x_pc (pc' := 23) rfl ?_
        refine x_up (pc' := 24) (fun _ _ _ _ _ L => lv_aload_n hx hb dX1_causeOf_23 rfl (lv_at L 0 rfl)) ?_
        refine x_gq X (kX1 hG) 0 (by decide) q589 (fun _ h => h) dX1_causeOf_24 hp14 (fun v19 hp15 => ?_)
        refine x_pc (pc' := 27) rfl ?_
        refine x_up (pc' := 28) (fun _ _ _ _ _ L => lv_iload_n hx hb dX1_causeOf_27 rfl (lv_at L 1 rfl)) ?_
        obtain ⟨b20, rfl, hp16⟩ := hp15
        refine x_callV (em := emI) (fun r st => .int r :: st) (fun _ _ => rfl) 1 X (kX2 hG) (fun σ' KK h => R_X2_causeOf l hl G hG b20 x1 σ' KK h) (lw_V q2780 q2421 q2422 q100 q2423) ⟨rfl, mdX2_causeOf⟩ ⟨Nat.le_of_ble_eq_true rfl, Nat.le_of_ble_eq_true rfl⟩ rfl rfl (Nat.le_of_ble_eq_true rfl) dX1_causeOf_28 hp16.1 hp16.2 (fun v21 σ22 hp17 => ?_)
        refine x_pc (pc' := 31) rfl ?_
        refine x_vx ?_; exact x_iret X hr rfl dX1_causeOf_31 hp17
      · have hp18 := hpB20
        obtain ⟨hq20, hp19⟩ := hp18
        obtain ⟨hr20, hp20⟩ := hp19
        exact x_out X (kJ30 hG) (hout 20) hr20 hq20 hp20
  · have hp21 := hpB1
    obtain ⟨hq1, hp22⟩ := hp21
    obtain ⟨hr1, hp23⟩ := hp22
    exact x_out X (kJ28 hG) (hout 1) hr1 hq1 hp23
-- X1_freeIn
def P_X1_freeIn (κ : Nat → Nat) (a0 : Nat) (x1 : Int32) (σ : xS) (K : Int32 → xH → Prop) (KX : Nat → xH → Prop) : Prop :=
  xcall (fun τ L => P_X1_isBetween κ x1 (0 : Int32) (3 : Int32) τ L) σ fun v1 σ2 => xcallX (fun τ L LX => P_X1_requireIndex κ v1 τ L LX) σ2 (fun _ σ3 => xgq σ3 a0 0 0 fun v6 => xnn v6 fun b7 => xgq σ3 b7 1 4 fun v8 => xnn v8 fun b9 => xai .int σ3 b9 x1 fun v10 => xgq σ3 a0 0 0 fun v11 => xnn v11 fun b12 => xgi σ3 b12 1 10 fun v13 => K (if (0 : Int32) < (v10 - v13) then (v10 - v13) else (0 : Int32)) σ3.1) (fun q4 σ5 => κ 0 ≤ q4 ∧ ((xrc σ5 q4 16 ∧ (KX q4 σ5.1))))
theorem mdX1_freeIn : yX1_freeIn.cls ≠ "java/lang/invoke/MethodHandle" ∧ yX1_freeIn.cls ≠ "java/lang/invoke/VarHandle" ∧ (parseMethodDescriptor yX1_freeIn.desc).map (fun d => d.parameters.length) = some 1 := by decide +kernel
set_option maxHeartbeats 4000000 in
set_option maxRecDepth 100000 in
theorem R_X1_freeIn (l : Launch) (hl : l.stackTraces = false) (G : xG) (hG : G.1.2 = x_cl) (a0 : Nat) (x1 : Int32) (σ : xS) (K : Int32 → xH → Prop) (KX : Nat → xH → Prop) (hp : P_X1_freeIn G.2 a0 x1 σ K KX) : xMX l yX1_freeIn cX1_freeIn 2 (Option.some Jvm.ClassFile.FieldType.int) 7 109 G [(.ref a0), .int x1] σ (xlift emI K) KX := by
  refine x_entryX (by decide) (Nat.le_of_ble_eq_true rfl) ?_
  intro p e s m args below meth c X hr hin hno
  have X : xX p s m args meth c G cX1_freeIn 2 RX1 := X
  have hx := X.1
  have hb := X.2.1
  have hts := X.2.2.2.2.1
  have hown := X.2.2.2.1
  have hout : ∀ pc, ∀ x ∈ c.exceptionTable.toList, covers x pc = false := fun _ x hx => (hno x hx).elim
  unfold P_X1_freeIn at hp
  refine x_same (lo' := [(0, .ref a0), (1, .int x1)]) rfl ?_
  refine x_up (pc' := 1) (fun _ _ _ _ _ L => lv_iload_n hx hb dX1_freeIn_0 rfl (lv_at L 1 rfl)) ?_
  refine x_up (pc' := 2) (fun _ _ _ _ _ L => lv_iconst (v := (0 : Int32)) hx hb dX1_freeIn_1 (by decide)) ?_
  refine x_up (pc' := 3) (fun _ _ _ _ _ L => lv_iconst (v := (3 : Int32)) hx hb dX1_freeIn_2 (by decide)) ?_
  refine x_callS (em := emI) (fun r st => .int r :: st) (fun _ _ => rfl) 3 X (fun σ' KK h => R_X1_isBetween l hl G hG x1 (0 : Int32) (3 : Int32) σ' KK h) (lw_S q2235 q2236 q99 q2237) mdX1_isBetween ⟨Nat.le_of_ble_eq_true rfl, Nat.le_of_ble_eq_true rfl⟩ rfl rfl (Nat.le_of_ble_eq_true rfl) dX1_freeIn_3 hp (fun v1 σ2 hp1 => ?_)
  refine x_pc (pc' := 6) rfl ?_
  refine x_callSX (em := emV) (fun r st => st) (fun _ _ => rfl) 1 X (fun σ' KK KX h => R_X1_requireIndex l hl G hG v1 σ' KK KX h) (lw_S q2660 q2661 q99 q2662) mdX1_requireIndex ⟨Nat.le_of_ble_eq_true rfl, Nat.le_of_ble_eq_true rfl⟩ rfl rfl (Nat.le_of_ble_eq_true rfl) dX1_freeIn_6 hp1 (fun _ σ3 hpA6 => ?_) (fun q4 σ5 hpB6 => ?_)
  · have hp2 := hpA6
    refine x_pc (pc' := 9) rfl ?_
    refine x_up (pc' := 10) (fun _ _ _ _ _ L => lv_iconst (v := (0 : Int32)) hx hb dX1_freeIn_9 (by decide)) ?_
    refine x_up (pc' := 11) (fun _ _ _ _ _ L => lv_aload_n hx hb dX1_freeIn_10 rfl (lv_at L 0 rfl)) ?_
    refine x_gq X (kX1 hG) 0 (by decide) q589 (fun _ h => h) dX1_freeIn_11 hp2 (fun v6 hp3 => ?_)
    refine x_pc (pc' := 14) rfl ?_
    obtain ⟨b7, rfl, hp4⟩ := hp3
    refine x_gqN X (kX2 hG) 4 (by decide) q467 (fun _ h => h) dX1_freeIn_14 hp4 (fun v8 hp5 => ?_)
    refine x_pc (pc' := 17) rfl ?_
    refine x_up (pc' := 18) (fun _ _ _ _ _ L => lv_iload_n hx hb dX1_freeIn_17 rfl (lv_at L 1 rfl)) ?_
    obtain ⟨b9, rfl, hp6⟩ := hp5
    refine x_iald X dX1_freeIn_18 hp6 (fun v10 hp7 => ?_)
    refine x_pc (pc' := 19) rfl ?_
    refine x_up (pc' := 20) (fun _ _ _ _ _ L => lv_aload_n hx hb dX1_freeIn_19 rfl (lv_at L 0 rfl)) ?_
    refine x_gq X (kX1 hG) 0 (by decide) q589 (fun _ h => h) dX1_freeIn_20 hp7 (fun v11 hp8 => ?_)
    refine x_pc (pc' := 23) rfl ?_
    obtain ⟨b12, rfl, hp9⟩ := hp8
    refine x_giN X (kX2 hG) 10 (by decide) q476 (fun _ h => h) dX1_freeIn_23 hp9 (fun v13 hp10 => ?_)
    refine x_pc (pc' := 26) rfl ?_
    refine x_up (pc' := 27) (fun _ _ _ _ _ L => lv_isub hx hb dX1_freeIn_26) ?_
    refine x_mmax X q2788 q358 q110 q359 x_maxB ⟨Nat.le_of_ble_eq_true rfl, Nat.le_of_ble_eq_true rfl⟩ (Nat.le_of_ble_eq_true rfl) dX1_freeIn_27 ?_
    refine x_pc (pc' := 30) rfl ?_
    refine x_vx ?_; exact x_iret X hr rfl dX1_freeIn_30 hp10
  · have hp11 := hpB6
    obtain ⟨hq6, hp12⟩ := hp11
    obtain ⟨hr6, hp13⟩ := hp12
    exact x_out X (kJ28 hG) (hout 6) hr6 hq6 hp13
-- J6_size
def P_J6_size (κ : Nat → Nat) (a0 : Nat) (σ : xS) (K : Int32 → xH → Prop) : Prop :=
  xgi σ a0 4 1 fun v1 => K v1 σ.1
theorem mdJ6_size : yJ6_size.cls ≠ "java/lang/invoke/MethodHandle" ∧ yJ6_size.cls ≠ "java/lang/invoke/VarHandle" ∧ (parseMethodDescriptor yJ6_size.desc).map (fun d => d.parameters.length) = some 0 := by decide +kernel
set_option maxHeartbeats 4000000 in
set_option maxRecDepth 100000 in
theorem R_J6_size (l : Launch) (hl : l.stackTraces = false) (G : xG) (hG : G.1.2 = x_cl) (a0 : Nat) (σ : xS) (K : Int32 → xH → Prop) (hp : P_J6_size G.2 a0 σ K) : xM l yJ6_size cJ6_size 1 (Option.some Jvm.ClassFile.FieldType.int) 0 0 G [(.ref a0)] σ (xlift emI K) := by
  refine x_entry (by decide) (Nat.le_of_ble_eq_true rfl) ?_
  intro p e s m args below meth c X hr hin
  have X : xX p s m args meth c G cJ6_size 1 RJ6 := X
  have hx := X.1
  have hb := X.2.1
  have hts := X.2.2.2.2.1
  have hown := X.2.2.2.1
  unfold P_J6_size at hp
  refine x_same (lo' := [(0, .ref a0)]) rfl ?_
  refine x_up (pc' := 1) (fun _ _ _ _ _ L => lv_aload_n hx hb dJ6_size_0 rfl (lv_at L 0 rfl)) ?_
  refine x_gi X (kJ6 hG) 1 (by decide) q255 (fun _ h => h) dJ6_size_1 hp (fun v1 hp1 => ?_)
  refine x_pc (pc' := 4) rfl ?_
  exact x_iret X hr rfl dJ6_size_4 hp1
-- J6_isElementIndex
def P_J6_isElementIndex (κ : Nat → Nat) (a0 : Nat) (x1 : Int32) (σ : xS) (K : Int32 → xH → Prop) : Prop :=
  ((x1 < 0 → (K (0 : Int32) σ.1)) ∧ (¬ x1 < 0 → (xgi σ a0 4 1 fun v1 => ((v1 ≤ x1 → (K (0 : Int32) σ.1)) ∧ (¬ v1 ≤ x1 → (K (1 : Int32) σ.1))))))
theorem mdJ6_isElementIndex : yJ6_isElementIndex.cls ≠ "java/lang/invoke/MethodHandle" ∧ yJ6_isElementIndex.cls ≠ "java/lang/invoke/VarHandle" ∧ (parseMethodDescriptor yJ6_isElementIndex.desc).map (fun d => d.parameters.length) = some 1 := by decide +kernel
set_option maxHeartbeats 4000000 in
set_option maxRecDepth 100000 in
theorem R_J6_isElementIndex (l : Launch) (hl : l.stackTraces = false) (G : xG) (hG : G.1.2 = x_cl) (a0 : Nat) (x1 : Int32) (σ : xS) (K : Int32 → xH → Prop) (hp : P_J6_isElementIndex G.2 a0 x1 σ K) : xM l yJ6_isElementIndex cJ6_isElementIndex 2 (Option.some Jvm.ClassFile.FieldType.boolean) 0 0 G [(.ref a0), .int x1] σ (xlift emI K) := by
  refine x_entry (by decide) (Nat.le_of_ble_eq_true rfl) ?_
  intro p e s m args below meth c X hr hin
  have X : xX p s m args meth c G cJ6_isElementIndex 2 RJ6 := X
  have hx := X.1
  have hb := X.2.1
  have hts := X.2.2.2.2.1
  have hown := X.2.2.2.1
  unfold P_J6_isElementIndex at hp
  refine x_same (lo' := [(0, .ref a0), (1, .int x1)]) rfl ?_
  refine x_up (pc' := 1) (fun _ _ _ _ _ L => lv_iload_n hx hb dJ6_isElementIndex_0 rfl (lv_at L 1 rfl)) ?_
  refine x_if (C := x1 < 0) (pt := 16) (pc' := 4) (fun _ _ _ _ _ => lv_if_lt (tgt := 16) hx hb dJ6_isElementIndex_1 (by decide)) (fun c1 => ?_) (fun c1 => ?_)
  · have hp1 := hp.1 c1
    refine x_up (pc' := 17) (fun _ _ _ _ _ L => lv_iconst (v := (0 : Int32)) hx hb dJ6_isElementIndex_16 (by decide)) ?_
    exact x_iret X hr rfl dJ6_isElementIndex_17 hp1
  · have hp2 := hp.2 c1
    refine x_up (pc' := 5) (fun _ _ _ _ _ L => lv_iload_n hx hb dJ6_isElementIndex_4 rfl (lv_at L 1 rfl)) ?_
    refine x_up (pc' := 6) (fun _ _ _ _ _ L => lv_aload_n hx hb dJ6_isElementIndex_5 rfl (lv_at L 0 rfl)) ?_
    refine x_gi X (kJ6 hG) 1 (by decide) q255 (fun _ h => h) dJ6_isElementIndex_6 hp2 (fun v1 hp3 => ?_)
    refine x_pc (pc' := 9) rfl ?_
    refine x_if (C := v1 ≤ x1) (pt := 16) (pc' := 12) (fun _ _ _ _ _ => lv_icmp_ge (tgt := 16) hx hb dJ6_isElementIndex_9 (by decide)) (fun c9 => ?_) (fun c9 => ?_)
    · have hp4 := hp3.1 c9
      refine x_up (pc' := 17) (fun _ _ _ _ _ L => lv_iconst (v := (0 : Int32)) hx hb dJ6_isElementIndex_16 (by decide)) ?_
      exact x_iret X hr rfl dJ6_isElementIndex_17 hp4
    · have hp5 := hp3.2 c9
      refine x_up (pc' := 13) (fun _ _ _ _ _ L => lv_iconst (v := (1 : Int32)) hx hb dJ6_isElementIndex_12 (by decide)) ?_
      refine x_up (pc' := 17) (fun _ _ _ _ _ L => lv_goto (tgt := 17) hx hb dJ6_isElementIndex_13 (by decide)) ?_
      exact x_iret X hr rfl dJ6_isElementIndex_17 hp5
-- J6_checkElementIndex
def P_J6_checkElementIndex (κ : Nat → Nat) (a0 : Nat) (x1 : Int32) (σ : xS) (K : Unit → xH → Prop) : Prop :=
  xrc σ a0 4 ∧ xcall (fun τ L => P_J6_isElementIndex κ a0 x1 τ L) σ fun v1 σ2 => ((v1 = 0 → (False)) ∧ (¬ v1 = 0 → (K () σ2.1)))
theorem mdJ6_checkElementIndex : yJ6_checkElementIndex.cls ≠ "java/lang/invoke/MethodHandle" ∧ yJ6_checkElementIndex.cls ≠ "java/lang/invoke/VarHandle" ∧ (parseMethodDescriptor yJ6_checkElementIndex.desc).map (fun d => d.parameters.length) = some 1 := by decide +kernel
set_option maxHeartbeats 4000000 in
set_option maxRecDepth 100000 in
theorem R_J6_checkElementIndex (l : Launch) (hl : l.stackTraces = false) (G : xG) (hG : G.1.2 = x_cl) (a0 : Nat) (x1 : Int32) (σ : xS) (K : Unit → xH → Prop) (hp : P_J6_checkElementIndex G.2 a0 x1 σ K) : xM l yJ6_checkElementIndex cJ6_checkElementIndex 2 (Option.none : Option Jvm.ClassFile.FieldType) 1 21 G [(.ref a0), .int x1] σ (xlift emV K) := by
  refine x_entry (by decide) (Nat.le_of_ble_eq_true rfl) ?_
  intro p e s m args below meth c X hr hin
  have X : xX p s m args meth c G cJ6_checkElementIndex 2 RJ6 := X
  have hx := X.1
  have hb := X.2.1
  have hts := X.2.2.2.2.1
  have hown := X.2.2.2.1
  unfold P_J6_checkElementIndex at hp
  refine x_same (lo' := [(0, .ref a0), (1, .int x1)]) rfl ?_
  refine x_up (pc' := 1) (fun _ _ _ _ _ L => lv_aload_n hx hb dJ6_checkElementIndex_0 rfl (lv_at L 0 rfl)) ?_
  refine x_up (pc' := 2) (fun _ _ _ _ _ L => lv_iload_n hx hb dJ6_checkElementIndex_1 rfl (lv_at L 1 rfl)) ?_
  refine x_callV (em := emI) (fun r st => .int r :: st) (fun _ _ => rfl) 1 X (kJ6 hG) (fun σ' KK h => R_J6_isElementIndex l hl G hG a0 x1 σ' KK h) (lw_V q803 q805 qs7 q107 q806) ⟨rfl, mdJ6_isElementIndex⟩ ⟨Nat.le_of_ble_eq_true rfl, Nat.le_of_ble_eq_true rfl⟩ rfl rfl (Nat.le_of_ble_eq_true rfl) dJ6_checkElementIndex_2 hp.1 hp.2 (fun v1 σ2 hp1 => ?_)
  refine x_pc (pc' := 5) rfl ?_
  refine x_ifn (C := v1 = 0) (pt := 21) (pc' := 8) (fun _ _ _ _ _ => lv_if_ne (tgt := 21) hx hb dJ6_checkElementIndex_5 (by decide)) (fun c5 => ?_) (fun c5 => ?_)
  · have hp2 := hp1.1 c5
    exact hp2.elim
  · have hp3 := hp1.2 c5
    exact x_vret X hr dJ6_checkElementIndex_21 hp3
-- J6_get
def P_J6_get (κ : Nat → Nat) (a0 : Nat) (x1 : Int32) (σ : xS) (K : Option Nat → xH → Prop) : Prop :=
  xrc σ a0 4 ∧ xcall (fun τ L => P_J6_checkElementIndex κ a0 x1 τ L) σ fun _ σ1 => xrc σ1 a0 4 ∧ xcall (fun τ L => P_J6_node κ a0 x1 τ L) σ1 fun v2 σ3 => xnn v2 fun b4 => xgq σ3 b4 6 0 fun v5 => K v5 σ3.1
theorem mdJ6_get : yJ6_get.cls ≠ "java/lang/invoke/MethodHandle" ∧ yJ6_get.cls ≠ "java/lang/invoke/VarHandle" ∧ (parseMethodDescriptor yJ6_get.desc).map (fun d => d.parameters.length) = some 1 := by decide +kernel
set_option maxHeartbeats 4000000 in
set_option maxRecDepth 100000 in
theorem R_J6_get (l : Launch) (hl : l.stackTraces = false) (G : xG) (hG : G.1.2 = x_cl) (a0 : Nat) (x1 : Int32) (σ : xS) (K : Option Nat → xH → Prop) (hp : P_J6_get G.2 a0 x1 σ K) : xM l yJ6_get cJ6_get 2 (Option.some (Jvm.ClassFile.FieldType.object "java/lang/Object")) 2 42 G [(.ref a0), .int x1] σ (xlift emQ K) := by
  refine x_entry (by decide) (Nat.le_of_ble_eq_true rfl) ?_
  intro p e s m args below meth c X hr hin
  have X : xX p s m args meth c G cJ6_get 2 RJ6 := X
  have hx := X.1
  have hb := X.2.1
  have hts := X.2.2.2.2.1
  have hown := X.2.2.2.1
  unfold P_J6_get at hp
  refine x_same (lo' := [(0, .ref a0), (1, .int x1)]) rfl ?_
  refine x_up (pc' := 1) (fun _ _ _ _ _ L => lv_aload_n hx hb dJ6_get_0 rfl (lv_at L 0 rfl)) ?_
  refine x_up (pc' := 2) (fun _ _ _ _ _ L => lv_iload_n hx hb dJ6_get_1 rfl (lv_at L 1 rfl)) ?_
  refine x_callV (em := emV) (fun r st => st) (fun _ _ => rfl) 1 X (kJ6 hG) (fun σ' KK h => R_J6_checkElementIndex l hl G hG a0 x1 σ' KK h) (lw_V q799 q801 qs6 q107 q802) ⟨rfl, mdJ6_checkElementIndex⟩ ⟨Nat.le_of_ble_eq_true rfl, Nat.le_of_ble_eq_true rfl⟩ rfl rfl (Nat.le_of_ble_eq_true rfl) dJ6_get_2 hp.1 hp.2 (fun _ σ1 hp1 => ?_)
  refine x_pc (pc' := 5) rfl ?_
  refine x_up (pc' := 6) (fun _ _ _ _ _ L => lv_aload_n hx hb dJ6_get_5 rfl (lv_at L 0 rfl)) ?_
  refine x_up (pc' := 7) (fun _ _ _ _ _ L => lv_iload_n hx hb dJ6_get_6 rfl (lv_at L 1 rfl)) ?_
  refine x_callV (em := emQ) (fun r st => va_rf r :: st) (fun _ _ => rfl) 1 X (kJ6 hG) (fun σ' KK h => R_J6_node l hl G hG a0 x1 σ' KK h) (lw_V q1100 q1101 q1102 q107 q1103) ⟨rfl, mdJ6_node⟩ ⟨Nat.le_of_ble_eq_true rfl, Nat.le_of_ble_eq_true rfl⟩ rfl rfl (Nat.le_of_ble_eq_true rfl) dJ6_get_7 hp1.1 hp1.2 (fun v2 σ3 hp2 => ?_)
  refine x_pc (pc' := 10) rfl ?_
  obtain ⟨b4, rfl, hp3⟩ := hp2
  refine x_gq X (kJ10 hG) 0 (by decide) q444 (fun _ h => h) dJ6_get_10 hp3 (fun v5 hp4 => ?_)
  refine x_pc (pc' := 13) rfl ?_
  exact x_aret X hr (Or.inl ⟨_, rfl⟩) dJ6_get_13 v5 hp4
-- X1_latest
def P_X1_latest (κ : Nat → Nat) (a0 : Nat) (x1 : Int32) (σ : xS) (K : Int32 → xH → Prop) (KX : Nat → xH → Prop) : Prop :=
  xgq σ a0 0 0 fun v1 => xnn v1 fun b2 => xgq σ b2 1 3 fun v3 => xnn v3 fun b4 => xrc σ b4 4 ∧ xcall (fun τ L => P_J6_size κ b4 τ L) σ fun v5 σ6 => xcall (fun τ L => P_X1_isBetween κ x1 (0 : Int32) (v5 - (1 : Int32)) τ L) σ6 fun v7 σ8 => xcallX (fun τ L LX => P_X1_requireElement κ v7 τ L LX) σ8 (fun _ σ9 => xgq σ9 a0 0 0 fun v12 => xnn v12 fun b13 => xgq σ9 b13 1 3 fun v14 => xnn v14 fun b15 => xrc σ9 b15 4 ∧ xcall (fun τ L => P_J6_get κ b15 x1 τ L) σ9 fun v16 σ17 => xnn v16 fun b18 => xrc σ17 b18 14 ∧ xrc σ17 b18 14 ∧ xcall (fun τ L => P_J23_intValue κ b18 τ L) σ17 fun v19 σ20 => K v19 σ20.1) (fun q10 σ11 => κ 0 ≤ q10 ∧ ((xrc σ11 q10 18 ∧ (KX q10 σ11.1))))
theorem mdX1_latest : yX1_latest.cls ≠ "java/lang/invoke/MethodHandle" ∧ yX1_latest.cls ≠ "java/lang/invoke/VarHandle" ∧ (parseMethodDescriptor yX1_latest.desc).map (fun d => d.parameters.length) = some 1 := by decide +kernel
set_option maxHeartbeats 4000000 in
set_option maxRecDepth 100000 in
theorem R_X1_latest (l : Launch) (hl : l.stackTraces = false) (G : xG) (hG : G.1.2 = x_cl) (a0 : Nat) (x1 : Int32) (σ : xS) (K : Int32 → xH → Prop) (KX : Nat → xH → Prop) (hp : P_X1_latest G.2 a0 x1 σ K KX) : xMX l yX1_latest cX1_latest 2 (Option.some Jvm.ClassFile.FieldType.int) 7 109 G [(.ref a0), .int x1] σ (xlift emI K) KX := by
  refine x_entryX (by decide) (Nat.le_of_ble_eq_true rfl) ?_
  intro p e s m args below meth c X hr hin hno
  have X : xX p s m args meth c G cX1_latest 2 RX1 := X
  have hx := X.1
  have hb := X.2.1
  have hts := X.2.2.2.2.1
  have hown := X.2.2.2.1
  have hout : ∀ pc, ∀ x ∈ c.exceptionTable.toList, covers x pc = false := fun _ x hx => (hno x hx).elim
  unfold P_X1_latest at hp
  refine x_same (lo' := [(0, .ref a0), (1, .int x1)]) rfl ?_
  refine x_up (pc' := 1) (fun _ _ _ _ _ L => lv_iload_n hx hb dX1_latest_0 rfl (lv_at L 1 rfl)) ?_
  refine x_up (pc' := 2) (fun _ _ _ _ _ L => lv_iconst (v := (0 : Int32)) hx hb dX1_latest_1 (by decide)) ?_
  refine x_up (pc' := 3) (fun _ _ _ _ _ L => lv_aload_n hx hb dX1_latest_2 rfl (lv_at L 0 rfl)) ?_
  refine x_gq X (kX1 hG) 0 (by decide) q589 (fun _ h => h) dX1_latest_3 hp (fun v1 hp1 => ?_)
  refine x_pc (pc' := 6) rfl ?_
  obtain ⟨b2, rfl, hp2⟩ := hp1
  refine x_gqN X (kX2 hG) 3 (by decide) q465 (fun _ h => h) dX1_latest_6 hp2 (fun v3 hp3 => ?_)
  refine x_pc (pc' := 9) rfl ?_
  obtain ⟨b4, rfl, hp4⟩ := hp3
  refine x_callV (em := emI) (fun r st => .int r :: st) (fun _ _ => rfl) 0 X (kJ6 hG) (fun σ' KK h => R_J6_size l hl G hG b4 σ' KK h) (lw_V q2796 q1344 q3700 q107 q1345) ⟨rfl, mdJ6_size⟩ ⟨Nat.le_of_ble_eq_true rfl, Nat.le_of_ble_eq_true rfl⟩ rfl rfl (Nat.le_of_ble_eq_true rfl) dX1_latest_9 hp4.1 hp4.2 (fun v5 σ6 hp5 => ?_)
  refine x_pc (pc' := 12) rfl ?_
  refine x_up (pc' := 13) (fun _ _ _ _ _ L => lv_iconst (v := (1 : Int32)) hx hb dX1_latest_12 (by decide)) ?_
  refine x_up (pc' := 14) (fun _ _ _ _ _ L => lv_isub hx hb dX1_latest_13) ?_
  refine x_callS (em := emI) (fun r st => .int r :: st) (fun _ _ => rfl) 3 X (fun σ' KK h => R_X1_isBetween l hl G hG x1 (0 : Int32) (v5 - (1 : Int32)) σ' KK h) (lw_S q2235 q2236 q99 q2237) mdX1_isBetween ⟨Nat.le_of_ble_eq_true rfl, Nat.le_of_ble_eq_true rfl⟩ rfl rfl (Nat.le_of_ble_eq_true rfl) dX1_latest_14 hp5 (fun v7 σ8 hp6 => ?_)
  refine x_pc (pc' := 17) rfl ?_
  refine x_callSX (em := emV) (fun r st => st) (fun _ _ => rfl) 1 X (fun σ' KK KX h => R_X1_requireElement l hl G hG v7 σ' KK KX h) (lw_S q2734 q2735 q99 q2736) mdX1_requireElement ⟨Nat.le_of_ble_eq_true rfl, Nat.le_of_ble_eq_true rfl⟩ rfl rfl (Nat.le_of_ble_eq_true rfl) dX1_latest_17 hp6 (fun _ σ9 hpA17 => ?_) (fun q10 σ11 hpB17 => ?_)
  · have hp7 := hpA17
    refine x_pc (pc' := 20) rfl ?_
    refine x_up (pc' := 21) (fun _ _ _ _ _ L => lv_aload_n hx hb dX1_latest_20 rfl (lv_at L 0 rfl)) ?_
    refine x_gq X (kX1 hG) 0 (by decide) q589 (fun _ h => h) dX1_latest_21 hp7 (fun v12 hp8 => ?_)
    refine x_pc (pc' := 24) rfl ?_
    obtain ⟨b13, rfl, hp9⟩ := hp8
    refine x_gqN X (kX2 hG) 3 (by decide) q465 (fun _ h => h) dX1_latest_24 hp9 (fun v14 hp10 => ?_)
    refine x_pc (pc' := 27) rfl ?_
    refine x_up (pc' := 28) (fun _ _ _ _ _ L => lv_iload_n hx hb dX1_latest_27 rfl (lv_at L 1 rfl)) ?_
    obtain ⟨b15, rfl, hp11⟩ := hp10
    refine x_callV (em := emQ) (fun r st => va_rf r :: st) (fun _ _ => rfl) 1 X (kJ6 hG) (fun σ' KK h => R_J6_get l hl G hG b15 x1 σ' KK h) (lw_V q2797 q797 q3701 q107 q798) ⟨rfl, mdJ6_get⟩ ⟨Nat.le_of_ble_eq_true rfl, Nat.le_of_ble_eq_true rfl⟩ rfl rfl (Nat.le_of_ble_eq_true rfl) dX1_latest_28 hp11.1 hp11.2 (fun v16 σ17 hp12 => ?_)
    refine x_pc (pc' := 31) rfl ?_
    obtain ⟨b18, rfl, hp13⟩ := hp12
    refine x_castS X (kJ23 hG) q2693 hp13.1 dX1_latest_31 ?_
    have hp14 := hp13.2
    refine x_pc (pc' := 34) rfl ?_
    refine x_callV (em := emI) (fun r st => .int r :: st) (fun _ _ => rfl) 0 X (kJ23 hG) (fun σ' KK h => R_J23_intValue l hl G hG b18 σ' KK h) (lw_V q2694 q675 q676 q128 q677) ⟨rfl, mdJ23_intValue⟩ ⟨Nat.le_of_ble_eq_true rfl, Nat.le_of_ble_eq_true rfl⟩ rfl rfl (Nat.le_of_ble_eq_true rfl) dX1_latest_34 hp14.1 hp14.2 (fun v19 σ20 hp15 => ?_)
    refine x_pc (pc' := 37) rfl ?_
    refine x_vx ?_; exact x_iret X hr rfl dX1_latest_37 hp15
  · have hp16 := hpB17
    obtain ⟨hq17, hp17⟩ := hp16
    obtain ⟨hr17, hp18⟩ := hp17
    exact x_out X (kJ30 hG) (hout 17) hr17 hq17 hp18
-- X11_init
def P_X11_init (κ : Nat → Nat) (a0 : Nat) (σ : xS) (K : Unit → xH → Prop) : Prop :=
  K () σ.1
theorem mdX11_init : yX11_init.cls ≠ "java/lang/invoke/MethodHandle" ∧ yX11_init.cls ≠ "java/lang/invoke/VarHandle" ∧ (parseMethodDescriptor yX11_init.desc).map (fun d => d.parameters.length) = some 0 := by decide +kernel
set_option maxHeartbeats 4000000 in
set_option maxRecDepth 100000 in
theorem R_X11_init (l : Launch) (hl : l.stackTraces = false) (G : xG) (hG : G.1.2 = x_cl) (a0 : Nat) (σ : xS) (K : Unit → xH → Prop) (hp : P_X11_init G.2 a0 σ K) : xM l yX11_init cX11_init 1 (Option.none : Option Jvm.ClassFile.FieldType) 1 20 G [(.ref a0)] σ (xlift emV K) := by
  refine x_entry (by decide) (Nat.le_of_ble_eq_true rfl) ?_
  intro p e s m args below meth c X hr hin
  have X : xX p s m args meth c G cX11_init 1 RX11 := X
  have hx := X.1
  have hb := X.2.1
  have hts := X.2.2.2.2.1
  have hown := X.2.2.2.1
  unfold P_X11_init at hp
  refine x_same (lo' := [(0, .ref a0)]) rfl ?_
  refine x_up (pc' := 1) (fun _ _ _ _ _ L => lv_aload_n hx hb dX11_init_0 rfl (lv_at L 0 rfl)) ?_
  refine x_objInit X q2814 q170 q171 dX11_init_1 (Nat.le_of_ble_eq_true rfl) ⟨Nat.le_of_ble_eq_true rfl, Nat.le_of_ble_eq_true rfl⟩ ?_
  refine x_pc (pc' := 4) rfl ?_
  exact x_vret X hr dX11_init_4 hp
