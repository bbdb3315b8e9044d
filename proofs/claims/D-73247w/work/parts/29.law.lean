/-! the law, decompiled (printed by genx.py) -/
set_option maxRecDepth 100000
abbrev m_L_law : Mt := ("QueueDriveLaw", cL_law, 8, some .boolean, [], "law")
def f_L_law_1331 (a0 : Nat) (k23 : Nat → Nat → Option Nat → Option Nat → Option Nat → Int → Wd → Prop) (k n : Nat) (l1 : Option Nat) (l2 : Option Nat) (l3 : Option Nat) (l4 : Int) (G : Wd) (Q : Bool → Wd → Prop) : Prop :=
  k23 k n l1 l2 l3 (l4 + 5) G
theorem w_L_law_1331 {a0 : Nat} {Q : Bool → Wd → Prop} {k23 : Nat → Nat → Option Nat → Option Nat → Option Nat → Int → Wd → Prop} (hk23 : ∀ {k n : Nat} {l1 : Option Nat} {l2 : Option Nat} {l3 : Option Nat} {l4 : Int} {G : Wd}, k23 k n l1 l2 l3 l4 G → wp m_L_law 227 k n 23 [some (vR (some a0)), some (vR l1), some (vR l2), some (vR l3), some (vI l4), none, none, none] [] G (qB Q) noX) {k n : Nat} {l1 : Option Nat} {l2 : Option Nat} {l3 : Option Nat} {l4 : Int} {G : Wd} (h : f_L_law_1331 a0 k23 k n l1 l2 l3 l4 G Q) : wp m_L_law 227 k n 1331 [some (vR (some a0)), some (vR l1), some (vR l2), some (vR l3), some (vI l4), none, none, none] [] G (qB Q) noX := by
  unfold f_L_law_1331 at h
  refine r_iinc (L' := [some (vR (some a0)), some (vR l1), some (vR l2), some (vR l3), some (vI (l4 + 5)), none, none, none]) dL_law_1331 rfl rfl cR (by decide) ?_
  refine r_goto (tgt := 23) dL_law_1334 (by decide) ?_
  exact hk23 h
def f_L_law_1328 (a0 : Nat) (k23 : Nat → Nat → Option Nat → Option Nat → Option Nat → Int → Wd → Prop) (k n : Nat) (l1 : Option Nat) (l2 : Option Nat) (l3 : Option Nat) (l4 : Int) (G : Wd) (Q : Bool → Wd → Prop) : Prop :=
  f_L_law_1331 a0 k23 k n l1 l2 l3 l4 G Q
theorem w_L_law_1328 {a0 : Nat} {Q : Bool → Wd → Prop} {k23 : Nat → Nat → Option Nat → Option Nat → Option Nat → Int → Wd → Prop} (hk23 : ∀ {k n : Nat} {l1 : Option Nat} {l2 : Option Nat} {l3 : Option Nat} {l4 : Int} {G : Wd}, k23 k n l1 l2 l3 l4 G → wp m_L_law 227 k n 23 [some (vR (some a0)), some (vR l1), some (vR l2), some (vR l3), some (vI l4), none, none, none] [] G (qB Q) noX) {k n : Nat} {l1 : Option Nat} {l2 : Option Nat} {l3 : Option Nat} {l4 : Int} {G : Wd} (h : f_L_law_1328 a0 k23 k n l1 l2 l3 l4 G Q) : wp m_L_law 227 k n 1328 [some (vR (some a0)), some (vR l1), some (vR l2), some (vR l3), some (vI l4), none, none, none] [] G (qB Q) noX := by
  unfold f_L_law_1328 at h
  refine r_goto (tgt := 1331) dL_law_1328 (by decide) ?_
  exact w_L_law_1331 hk23 h
def f_L_law_361 (a0 : Nat) (k23 : Nat → Nat → Option Nat → Option Nat → Option Nat → Int → Wd → Prop) (k n : Nat) (l1 : Option Nat) (l2 : Option Nat) (l3 : Option Nat) (l4 : Int) (G : Wd) (Q : Bool → Wd → Prop) : Prop :=
  f_L_law_1331 a0 k23 k n l1 l2 l3 l4 G Q
theorem w_L_law_361 {a0 : Nat} {Q : Bool → Wd → Prop} {k23 : Nat → Nat → Option Nat → Option Nat → Option Nat → Int → Wd → Prop} (hk23 : ∀ {k n : Nat} {l1 : Option Nat} {l2 : Option Nat} {l3 : Option Nat} {l4 : Int} {G : Wd}, k23 k n l1 l2 l3 l4 G → wp m_L_law 227 k n 23 [some (vR (some a0)), some (vR l1), some (vR l2), some (vR l3), some (vI l4), none, none, none] [] G (qB Q) noX) {k n : Nat} {l1 : Option Nat} {l2 : Option Nat} {l3 : Option Nat} {l4 : Int} {G : Wd} (h : f_L_law_361 a0 k23 k n l1 l2 l3 l4 G Q) : wp m_L_law 227 k n 361 [some (vR (some a0)), some (vR l1), some (vR l2), some (vR l3), some (vI l4), none, none, none] [] G (qB Q) noX := by
  unfold f_L_law_361 at h
  refine r_goto (tgt := 1331) dL_law_361 (by decide) ?_
  exact w_L_law_1331 hk23 h
def f_L_law_23_b (a0 : Nat) (k23 : Nat → Nat → Option Nat → Option Nat → Option Nat → Int → Wd → Prop) (k n : Nat) (l1 : Option Nat) (l2 : Option Nat) (l3 : Option Nat) (l4 : Int) (G : Wd) (Q : Bool → Wd → Prop) : Prop :=
  lnC G a0 (fun x829 => br l4 (x829 - 5) ((x829 - 5) < l4) (Q true G) (ldC G a0 l4 (fun x830 => ok32 (iand x830 63) (swc (iand x830 63) 0 (ldC G a0 (l4 + 1) (fun x831 => nn l1 (fun a832 => (isC G a832 0 ∧ f_X1_sign a832 x831 G (fun x834 G833 => ldC G833 a0 (l4 + 1) (fun x835 => nn l2 (fun a836 => tcI G833 a836 (f_X4_sign x835) (fun x838 G837 => br x834 x838 (x834 = x838) (f_L_law_1331 a0 k23 k n (some a832) (some a836) l3 l4 G837 Q) (Q false G837))))))))) (swc (iand x830 63) 1 (ldC G a0 (l4 + 1) (fun x839 => nn l1 (fun a840 => (isC G a840 0 ∧ f_X1_end a840 x839 G (fun x842 G841 => ldC G841 a0 (l4 + 1) (fun x843 => nn l2 (fun a844 => tcB G841 a844 (f_X4_end x843) (fun x846 G845 => br (b2i x842) (b2i x846) ((b2i x842) = (b2i x846)) (f_L_law_1331 a0 k23 k n (some a840) (some a844) l3 l4 G845 Q) (Q false G845))))))))) (swc (iand x830 63) 2 (nn l1 (fun a847 => (∃ k849 n850, (k849 ≤ k ∧ n850 ≤ n) ∧ (isC G a847 0 ∧ f_X1_queues k849 n850 a847  G (fun x851 G848 => nn l2 (fun a852 => tcI G848 a852 f_X4_queues (fun x854 G853 => br x851 x854 (x851 = x854) (f_L_law_1331 a0 k23 (k - k849) (n - n850) (some a847) (some a852) l3 l4 G853 Q) (Q false G853)))))))) (swc (iand x830 63) 3 (nn l1 (fun a855 => (∃ k857 n858, (k857 ≤ k ∧ n858 ≤ n) ∧ (isC G a855 0 ∧ f_X1_rule k857 n858 a855  G (fun x859 G856 => nn l2 (fun a860 => tcI G856 a860 f_X4_rule (fun x862 G861 => br x859 x862 (x859 = x862) (f_L_law_1331 a0 k23 (k - k857) (n - n858) (some a855) (some a860) l3 l4 G861 Q) (Q false G861)))))))) (swc (iand x830 63) 4 (ldC G a0 (l4 + 1) (fun x863 => ldC G a0 (l4 + 2) (fun x864 => (∃ k866 n867, (k866 ≤ k ∧ n867 ≤ n) ∧ f_X0_queue k866 n867 l1 x863 x864 l3 G (fun x868 G865 => ldC G865 a0 (l4 + 1) (fun x869 => ldC G865 a0 (l4 + 2) (fun x870 => nn l2 (fun a871 => tcI G865 a871 (f_X4_queue x869 x870) (fun x873 G872 => tcI G872 a871 f_X4_thrown (fun x875 G874 => br x875 x868 (x875 = x868) (br0 x868 (¬ x868 = 0) (f_L_law_361 a0 k23 (k - k866) (n - n867) l1 (some a871) l3 l4 G874 Q) (nn l3 (fun a876 => ldJ G874 a876 0 (fun x877 => ok32 x873 (((R64 x877 ∧ R64 x873) ∧ br0 (sg x877 x873) ((sg x877 x873) = 0) (f_L_law_361 a0 k23 (k - k866) (n - n867) l1 (some a871) (some a876) l4 G874 Q) (Q false G874))))))) (Q false G874))))))))))) (swc (iand x830 63) 5 (ldC G a0 (l4 + 1) (fun x878 => ldC G a0 (l4 + 2) (fun x879 => ldC G a0 (l4 + 3) (fun x880 => ldC G a0 (l4 + 4) (fun x881 => nn l1 (fun a882 => (∃ k884 n885, (k884 ≤ k ∧ n885 ≤ n) ∧ (isC G a882 0 ∧ f_X1_sheet k884 n885 a882 x878 x879 x880 x881 G (fun x886 G883 => ldC G883 a0 (l4 + 1) (fun x887 => ldC G883 a0 (l4 + 2) (fun x888 => ldC G883 a0 (l4 + 3) (fun x889 => ldC G883 a0 (l4 + 4) (fun x890 => nn l2 (fun a891 => tcI G883 a891 (f_X4_sheet x887 x888 x889 x890) (fun x893 G892 => br x886 x893 (x886 = x893) (f_L_law_1331 a0 k23 (k - k884) (n - n885) (some a882) (some a891) l3 l4 G892 Q) (Q false G892)))))))))))))))) (swc (iand x830 63) 6 (ldC G a0 (l4 + 1) (fun x894 => ldC G a0 (l4 + 2) (fun x895 => ldC G a0 (l4 + 3) (fun x896 => ldC G a0 (l4 + 4) (fun x897 => nn l1 (fun a898 => (∃ k900 n901, (k900 ≤ k ∧ n901 ≤ n) ∧ (isC G a898 0 ∧ f_X1_puts k900 n901 a898 x894 x895 x896 x897 G (fun x902 G899 => ldC G899 a0 (l4 + 1) (fun x903 => ldC G899 a0 (l4 + 2) (fun x904 => ldC G899 a0 (l4 + 3) (fun x905 => ldC G899 a0 (l4 + 4) (fun x906 => nn l2 (fun a907 => tcI G899 a907 (f_X4_puts x903 x904 x905 x906) (fun x909 G908 => br x902 x909 (x902 = x909) (f_L_law_1331 a0 k23 (k - k900) (n - n901) (some a898) (some a907) l3 l4 G908 Q) (Q false G908)))))))))))))))) (swc (iand x830 63) 7 (ldC G a0 (l4 + 1) (fun x910 => nn l1 (fun a911 => (∃ k913 n914, (k913 ≤ k ∧ n914 ≤ n) ∧ (isC G a911 0 ∧ f_X1_ring k913 n914 a911 x910 G (fun x915 G912 => ldC G912 a0 (l4 + 1) (fun x916 => nn l2 (fun a917 => tcI G912 a917 (f_X4_ring x916) (fun x919 G918 => br x915 x919 (x915 = x919) (f_L_law_1331 a0 k23 (k - k913) (n - n914) (some a911) (some a917) l3 l4 G918 Q) (Q false G918)))))))))) (swc (iand x830 63) 8 (ldC G a0 (l4 + 1) (fun x920 => nn l1 (fun a921 => (∃ k923 n924, (k923 ≤ k ∧ n924 ≤ n) ∧ (isC G a921 0 ∧ f_X1_ticks k923 n924 a921 x920 G (fun x925 G922 => ldC G922 a0 (l4 + 1) (fun x926 => nn l2 (fun a927 => tcI G922 a927 (f_X4_ticks x926) (fun x929 G928 => br x925 x929 (x925 = x929) (f_L_law_1331 a0 k23 (k - k923) (n - n924) (some a921) (some a927) l3 l4 G928 Q) (Q false G928)))))))))) (swc (iand x830 63) 9 (ldC G a0 (l4 + 1) (fun x930 => nn l1 (fun a931 => (∃ k933 n934, (k933 ≤ k ∧ n934 ≤ n) ∧ (isC G a931 0 ∧ f_X1_takes k933 n934 a931 x930 G (fun x935 G932 => ldC G932 a0 (l4 + 1) (fun x936 => nn l2 (fun a937 => tcI G932 a937 (f_X4_takes x936) (fun x939 G938 => br x935 x939 (x935 = x939) (f_L_law_1331 a0 k23 (k - k933) (n - n934) (some a931) (some a937) l3 l4 G938 Q) (Q false G938)))))))))) (swc (iand x830 63) 10 (ldC G a0 (l4 + 1) (fun x940 => ldC G a0 (l4 + 2) (fun x941 => nn l1 (fun a942 => (∃ k944 n945, (k944 ≤ k ∧ n945 ≤ n) ∧ (isC G a942 0 ∧ f_X1_calls k944 n945 a942 x940 x941 G (fun x946 G943 => ldC G943 a0 (l4 + 1) (fun x947 => ldC G943 a0 (l4 + 2) (fun x948 => nn l2 (fun a949 => tcI G943 a949 (f_X4_calls x947 x948) (fun x951 G950 => br x946 x951 (x946 = x951) (f_L_law_1331 a0 k23 (k - k944) (n - n945) (some a942) (some a949) l3 l4 G950 Q) (Q false G950)))))))))))) (swc (iand x830 63) 11 (nn l1 (fun a952 => (∃ k954 n955, (k954 ≤ k ∧ n955 ≤ n) ∧ (isC G a952 0 ∧ f_X1_resets k954 n955 a952  G (fun x956 G953 => nn l2 (fun a957 => tcI G953 a957 f_X4_resets (fun x959 G958 => br x956 x959 (x956 = x959) (f_L_law_1331 a0 k23 (k - k954) (n - n955) (some a952) (some a957) l3 l4 G958 Q) (Q false G958)))))))) (swc (iand x830 63) 12 (ldC G a0 (l4 + 1) (fun x960 => ldC G a0 (l4 + 2) (fun x961 => nn l1 (fun a962 => (∃ k964 n965, (k964 ≤ k ∧ n965 ≤ n) ∧ (isC G a962 0 ∧ f_X1_weighs k964 n965 a962 x960 x961 G (fun x966 G963 => ldC G963 a0 (l4 + 1) (fun x967 => ldC G963 a0 (l4 + 2) (fun x968 => nn l2 (fun a969 => tcI G963 a969 (f_X4_weighs x967 x968) (fun x971 G970 => br x966 x971 (x966 = x971) (f_L_law_1331 a0 k23 (k - k964) (n - n965) (some a962) (some a969) l3 l4 G970 Q) (Q false G970)))))))))))) (swc (iand x830 63) 13 (ldC G a0 (l4 + 1) (fun x972 => nn l1 (fun a973 => (∃ k975 n976, (k975 ≤ k ∧ n976 ≤ n) ∧ (isC G a973 0 ∧ f_X1_depth k975 n976 a973 x972 G (fun x977 G974 => ldC G974 a0 (l4 + 1) (fun x978 => nn l2 (fun a979 => tcI G974 a979 (f_X4_depth x978) (fun x981 G980 => br x977 x981 (x977 = x981) (f_L_law_1331 a0 k23 (k - k975) (n - n976) (some a973) (some a979) l3 l4 G980 Q) (Q false G980)))))))))) (swc (iand x830 63) 14 (nn l1 (fun a982 => (∃ k984 n985, (k984 ≤ k ∧ n985 ≤ n) ∧ (isC G a982 0 ∧ f_X1_day k984 n985 a982  G (fun x986 G983 => nn l2 (fun a987 => tcI G983 a987 f_X4_day (fun x989 G988 => br x986 x989 (x986 = x989) (f_L_law_1331 a0 k23 (k - k984) (n - n985) (some a982) (some a987) l3 l4 G988 Q) (Q false G988)))))))) (swc (iand x830 63) 15 (nn l1 (fun a990 => (∃ k992 n993, (k992 ≤ k ∧ n993 ≤ n) ∧ (isC G a990 0 ∧ f_X1_undo k992 n993 a990  G (fun x994 G991 => nn l2 (fun a995 => tcI G991 a995 f_X4_undo (fun x997 G996 => br x994 x997 (x994 = x997) (f_L_law_1331 a0 k23 (k - k992) (n - n993) (some a990) (some a995) l3 l4 G996 Q) (Q false G996)))))))) (swc (iand x830 63) 16 (ldC G a0 (l4 + 1) (fun x998 => nn l1 (fun a999 => (∃ k1001 n1002, (k1001 ≤ k ∧ n1002 ≤ n) ∧ (isC G a999 0 ∧ f_X1_waiting k1001 n1002 a999 x998 G (fun x1003 G1000 => ldC G1000 a0 (l4 + 1) (fun x1004 => nn l2 (fun a1005 => tcI G1000 a1005 (f_X4_waiting x1004) (fun x1007 G1006 => br x1003 x1007 (x1003 = x1007) (f_L_law_1331 a0 k23 (k - k1001) (n - n1002) (some a999) (some a1005) l3 l4 G1006 Q) (Q false G1006)))))))))) (swc (iand x830 63) 17 (nn l1 (fun a1008 => (∃ k1010 n1011, (k1010 ≤ k ∧ n1011 ≤ n) ∧ (isC G a1008 0 ∧ f_X1_running k1010 n1011 a1008  G (fun x1012 G1009 => nn l2 (fun a1013 => tcI G1009 a1013 f_X4_running (fun x1015 G1014 => br x1012 x1015 (x1012 = x1015) (f_L_law_1331 a0 k23 (k - k1010) (n - n1011) (some a1008) (some a1013) l3 l4 G1014 Q) (Q false G1014)))))))) (swc (iand x830 63) 18 (nn l1 (fun a1016 => (∃ k1018 n1019, (k1018 ≤ k ∧ n1019 ≤ n) ∧ (isC G a1016 0 ∧ f_X1_outbox k1018 n1019 a1016  G (fun x1020 G1017 => nn l2 (fun a1021 => tcI G1017 a1021 f_X4_outbox (fun x1023 G1022 => br x1020 x1023 (x1020 = x1023) (f_L_law_1331 a0 k23 (k - k1018) (n - n1019) (some a1016) (some a1021) l3 l4 G1022 Q) (Q false G1022)))))))) (swc (iand x830 63) 19 (ldC G a0 (l4 + 1) (fun x1024 => nn l1 (fun a1025 => (isC G a1025 0 ∧ f_X1_phases a1025 x1024 G (fun x1027 G1026 => ldC G1026 a0 (l4 + 1) (fun x1028 => nn l2 (fun a1029 => tcI G1026 a1029 (f_X4_phases x1028) (fun x1031 G1030 => br x1027 x1031 (x1027 = x1031) (f_L_law_1331 a0 k23 k n (some a1025) (some a1029) l3 l4 G1030 Q) (Q false G1030))))))))) (swc (iand x830 63) 20 (ldC G a0 (l4 + 1) (fun x1032 => nn l1 (fun a1033 => (isC G a1033 0 ∧ f_X1_room a1033 x1032 G (fun x1035 G1034 => ldC G1034 a0 (l4 + 1) (fun x1036 => nn l2 (fun a1037 => tcI G1034 a1037 (f_X4_room x1036) (fun x1039 G1038 => br x1035 x1039 (x1035 = x1039) (f_L_law_1331 a0 k23 k n (some a1033) (some a1037) l3 l4 G1038 Q) (Q false G1038))))))))) (swc (iand x830 63) 21 (ldC G a0 (l4 + 1) (fun x1040 => nn l1 (fun a1041 => (∃ k1043 n1044, (k1043 ≤ k ∧ n1044 ≤ n) ∧ (isC G a1041 0 ∧ f_X1_block k1043 n1044 a1041 x1040 G (fun x1045 G1042 => ldC G1042 a0 (l4 + 1) (fun x1046 => nn l2 (fun a1047 => tcI G1042 a1047 (f_X4_block x1046) (fun x1049 G1048 => br x1045 x1049 (x1045 = x1049) (f_L_law_1331 a0 k23 (k - k1043) (n - n1044) (some a1041) (some a1047) l3 l4 G1048 Q) (Q false G1048)))))))))) (swc (iand x830 63) 22 (nn l1 (fun a1050 => (∃ k1052 n1053, (k1052 ≤ k ∧ n1053 ≤ n) ∧ (isC G a1050 0 ∧ f_X1_next k1052 n1053 a1050  G (fun x1054 G1051 => nn l2 (fun a1055 => tcI G1051 a1055 f_X4_next (fun x1057 G1056 => br x1054 x1057 (x1054 = x1057) (f_L_law_1331 a0 k23 (k - k1052) (n - n1053) (some a1050) (some a1055) l3 l4 G1056 Q) (Q false G1056)))))))) (swc (iand x830 63) 23 (ldC G a0 (l4 + 1) (fun x1058 => nn l1 (fun a1059 => (∃ k1061 n1062, (k1061 ≤ k ∧ n1062 ≤ n) ∧ (isC G a1059 0 ∧ f_X1_deals k1061 n1062 a1059 x1058 G (fun x1063 G1060 => ldC G1060 a0 (l4 + 1) (fun x1064 => nn l2 (fun a1065 => tcI G1060 a1065 (f_X4_deals x1064) (fun x1067 G1066 => br x1063 x1067 (x1063 = x1067) (f_L_law_1331 a0 k23 (k - k1061) (n - n1062) (some a1059) (some a1065) l3 l4 G1066 Q) (Q false G1066)))))))))) (swc (iand x830 63) 24 (ldC G a0 (l4 + 1) (fun x1068 => ldC G a0 (l4 + 2) (fun x1069 => nn l1 (fun a1070 => (∃ k1072 n1073, (k1072 ≤ k ∧ n1073 ≤ n) ∧ (isC G a1070 0 ∧ f_X1_when k1072 n1073 a1070 x1068 x1069 G (fun x1074 G1071 => ldC G1071 a0 (l4 + 1) (fun x1075 => ldC G1071 a0 (l4 + 2) (fun x1076 => nn l2 (fun a1077 => tcI G1071 a1077 (f_X4_when x1075 x1076) (fun x1079 G1078 => br x1074 x1079 (x1074 = x1079) (f_L_law_1331 a0 k23 (k - k1072) (n - n1073) (some a1070) (some a1077) l3 l4 G1078 Q) (Q false G1078)))))))))))) (swc (iand x830 63) 25 (nn l1 (fun a1080 => (∃ k1082 n1083, (k1082 ≤ k ∧ n1083 ≤ n) ∧ (isC G a1080 0 ∧ f_X1_drains k1082 n1083 a1080  G (fun x1084 G1081 => nn l2 (fun a1085 => tcI G1081 a1085 f_X4_drains (fun x1087 G1086 => br x1084 x1087 (x1084 = x1087) (f_L_law_1331 a0 k23 (k - k1082) (n - n1083) (some a1080) (some a1085) l3 l4 G1086 Q) (Q false G1086)))))))) (swc (iand x830 63) 26 (ldC G a0 (l4 + 1) (fun x1088 => nn l1 (fun a1089 => (∃ k1091 n1092, (k1091 ≤ k ∧ n1092 ≤ n) ∧ (isC G a1089 0 ∧ f_X1_would k1091 n1092 a1089 x1088 G (fun x1093 G1090 => ldC G1090 a0 (l4 + 1) (fun x1094 => nn l2 (fun a1095 => tcI G1090 a1095 (f_X4_would x1094) (fun x1097 G1096 => br x1093 x1097 (x1093 = x1097) (f_L_law_1331 a0 k23 (k - k1091) (n - n1092) (some a1089) (some a1095) l3 l4 G1096 Q) (Q false G1096)))))))))) (swc (iand x830 63) 27 (ldC G a0 (l4 + 1) (fun x1098 => nn l1 (fun a1099 => (isC G a1099 0 ∧ f_X1_needs a1099 x1098 G (fun x1101 G1100 => ldC G1100 a0 (l4 + 1) (fun x1102 => nn l2 (fun a1103 => tcI G1100 a1103 (f_X4_needs x1102) (fun x1105 G1104 => br x1101 x1105 (x1101 = x1105) (f_L_law_1331 a0 k23 k n (some a1099) (some a1103) l3 l4 G1104 Q) (Q false G1104))))))))) (swc (iand x830 63) 28 (nn l1 (fun a1106 => (isC G a1106 0 ∧ f_X1_bells a1106  G (fun x1108 G1107 => nn l2 (fun a1109 => tcI G1107 a1109 f_X4_bells (fun x1111 G1110 => br x1108 x1111 (x1108 = x1111) (f_L_law_1331 a0 k23 k n (some a1106) (some a1109) l3 l4 G1110 Q) (Q false G1110))))))) (swc (iand x830 63) 29 (ldC G a0 (l4 + 1) (fun x1112 => ldC G a0 (l4 + 2) (fun x1113 => nn l1 (fun a1114 => (∃ k1116 n1117, (k1116 ≤ k ∧ n1117 ≤ n) ∧ (isC G a1114 0 ∧ f_X1_recall k1116 n1117 a1114 x1112 x1113 G (fun x1118 G1115 => ldC G1115 a0 (l4 + 1) (fun x1119 => ldC G1115 a0 (l4 + 2) (fun x1120 => nn l2 (fun a1121 => tcI G1115 a1121 (f_X4_recall x1119 x1120) (fun x1123 G1122 => br x1118 x1123 (x1118 = x1123) (f_L_law_1331 a0 k23 (k - k1116) (n - n1117) (some a1114) (some a1121) l3 l4 G1122 Q) (Q false G1122)))))))))))) (swc (iand x830 63) 30 (nn l1 (fun a1124 => (isC G a1124 0 ∧ f_X1_served a1124  G (fun x1126 G1125 => nn l2 (fun a1127 => tcI G1125 a1127 f_X4_served (fun x1129 G1128 => br x1126 x1129 (x1126 = x1129) (f_L_law_1331 a0 k23 k n (some a1124) (some a1127) l3 l4 G1128 Q) (Q false G1128))))))) (swc (iand x830 63) 31 (ldC G a0 (l4 + 1) (fun x1130 => ldC G a0 (l4 + 2) (fun x1131 => nn l1 (fun a1132 => (isC G a1132 0 ∧ f_X1_heard a1132 x1130 x1131 G (fun x1134 G1133 => ldC G1133 a0 (l4 + 1) (fun x1135 => ldC G1133 a0 (l4 + 2) (fun x1136 => nn l2 (fun a1137 => tcI G1133 a1137 (f_X4_heard x1135 x1136) (fun x1139 G1138 => br x1134 x1139 (x1134 = x1139) (f_L_law_1331 a0 k23 k n (some a1132) (some a1137) l3 l4 G1138 Q) (Q false G1138))))))))))) (swc (iand x830 63) 32 (nn l1 (fun a1140 => (isC G a1140 0 ∧ f_X1_denies a1140  G (fun x1142 G1141 => nn l2 (fun a1143 => tcI G1141 a1143 f_X4_denies (fun x1145 G1144 => br x1142 x1145 (x1142 = x1145) (f_L_law_1331 a0 k23 k n (some a1140) (some a1143) l3 l4 G1144 Q) (Q false G1144))))))) (swc (iand x830 63) 33 (nn l1 (fun a1146 => (∃ k1148 n1149, (k1148 ≤ k ∧ n1149 ≤ n) ∧ (isC G a1146 0 ∧ f_X1_fits k1148 n1149 a1146  G (fun x1150 G1147 => nn l2 (fun a1151 => tcI G1147 a1151 f_X4_fits (fun x1153 G1152 => br x1150 x1153 (x1150 = x1153) (f_L_law_1331 a0 k23 (k - k1148) (n - n1149) (some a1146) (some a1151) l3 l4 G1152 Q) (Q false G1152)))))))) (swc (iand x830 63) 34 (nn l1 (fun a1154 => (∃ k1156 n1157, (k1156 ≤ k ∧ n1157 ≤ n) ∧ (isC G a1154 0 ∧ f_X1_asks k1156 n1157 a1154  G (fun x1158 G1155 => nn l2 (fun a1159 => tcI G1155 a1159 f_X4_asks (fun x1161 G1160 => br x1158 x1161 (x1158 = x1161) (f_L_law_1331 a0 k23 (k - k1156) (n - n1157) (some a1154) (some a1159) l3 l4 G1160 Q) (Q false G1160)))))))) (swc (iand x830 63) 35 (ldC G a0 (l4 + 1) (fun x1162 => ldC G a0 (l4 + 2) (fun x1163 => ldC G a0 (l4 + 3) (fun x1164 => nn l1 (fun a1165 => (∃ k1167 n1168, (k1167 ≤ k ∧ n1168 ≤ n) ∧ (isC G a1165 0 ∧ f_X1_laps k1167 n1168 a1165 x1162 x1163 x1164 G (fun x1169 G1166 => ldC G1166 a0 (l4 + 1) (fun x1170 => ldC G1166 a0 (l4 + 2) (fun x1171 => ldC G1166 a0 (l4 + 3) (fun x1172 => nn l2 (fun a1173 => tcI G1166 a1173 (f_X4_laps x1170 x1171 x1172) (fun x1175 G1174 => br x1169 x1175 (x1169 = x1175) (f_L_law_1331 a0 k23 (k - k1167) (n - n1168) (some a1165) (some a1173) l3 l4 G1174 Q) (Q false G1174)))))))))))))) (swc (iand x830 63) 36 (nn l1 (fun a1176 => (∃ k1178 n1179, (k1178 ≤ k ∧ n1179 ≤ n) ∧ (isC G a1176 0 ∧ f_X1_law k1178 n1179 a1176  G (fun x1180 G1177 => nn l2 (fun a1181 => tcI G1177 a1181 f_X4_law (fun x1183 G1182 => br x1180 x1183 (x1180 = x1183) (f_L_law_1331 a0 k23 (k - k1178) (n - n1179) (some a1176) (some a1181) l3 l4 G1182 Q) (Q false G1182)))))))) (swc (iand x830 63) 37 (ldC G a0 (l4 + 1) (fun x1184 => ldC G a0 (l4 + 2) (fun x1185 => nn l1 (fun a1186 => (∃ k1188 n1189, (k1188 ≤ k ∧ n1189 ≤ n) ∧ (isC G a1186 0 ∧ f_X1_years k1188 n1189 a1186 x1184 x1185 G (fun x1190 G1187 => ldC G1187 a0 (l4 + 1) (fun x1191 => ldC G1187 a0 (l4 + 2) (fun x1192 => nn l2 (fun a1193 => tcI G1187 a1193 (f_X4_years x1191 x1192) (fun x1195 G1194 => br x1190 x1195 (x1190 = x1195) (f_L_law_1331 a0 k23 (k - k1188) (n - n1189) (some a1186) (some a1193) l3 l4 G1194 Q) (Q false G1194)))))))))))) (swc (iand x830 63) 38 (ldC G a0 (l4 + 1) (fun x1196 => nn l1 (fun a1197 => (∃ k1199 n1200, (k1199 ≤ k ∧ n1200 ≤ n) ∧ (isC G a1197 0 ∧ f_X1_keep k1199 n1200 a1197 x1196 G (fun x1201 G1198 => ldC G1198 a0 (l4 + 1) (fun x1202 => nn l2 (fun a1203 => tcB G1198 a1203 (f_X4_keep x1202) (fun x1205 G1204 => br (b2i x1201) (b2i x1205) ((b2i x1201) = (b2i x1205)) (f_L_law_1331 a0 k23 (k - k1199) (n - n1200) (some a1197) (some a1203) l3 l4 G1204 Q) (Q false G1204)))))))))) (swc (iand x830 63) 39 (ldC G a0 (l4 + 1) (fun x1206 => nn l1 (fun a1207 => (∃ k1209 n1210, (k1209 ≤ k ∧ n1210 ≤ n) ∧ (isC G a1207 0 ∧ f_X1_again k1209 n1210 a1207 x1206 G (fun x1211 G1208 => ldC G1208 a0 (l4 + 1) (fun x1212 => nn l2 (fun a1213 => tcB G1208 a1213 (f_X4_again x1212) (fun x1215 G1214 => br (b2i x1211) (b2i x1215) ((b2i x1211) = (b2i x1215)) (f_L_law_1331 a0 k23 (k - k1209) (n - n1210) (some a1207) (some a1213) l3 l4 G1214 Q) (Q false G1214)))))))))) (swc (iand x830 63) 40 (ldC G a0 (l4 + 1) (fun x1216 => nn l1 (fun a1217 => (isC G a1217 0 ∧ f_X1_count a1217 x1216 G (fun x1219 G1218 => ldC G1218 a0 (l4 + 1) (fun x1220 => nn l2 (fun a1221 => tcI G1218 a1221 (f_X4_count x1220) (fun x1223 G1222 => br x1219 x1223 (x1219 = x1223) (f_L_law_1331 a0 k23 k n (some a1217) (some a1221) l3 l4 G1222 Q) (Q false G1222))))))))) (swc (iand x830 63) 41 (ldC G a0 (l4 + 1) (fun x1224 => (∃ k1226 n1227, (k1226 ≤ k ∧ n1227 ≤ n) ∧ f_X0_row k1226 n1227 l1 x1224 l3 G (fun x1228 G1225 => ldC G1225 a0 (l4 + 1) (fun x1229 => nn l2 (fun a1230 => tcJ G1225 a1230 (f_X4_row x1229) (fun x1232 G1231 => tcI G1231 a1230 f_X4_thrown (fun x1234 G1233 => br x1234 x1228 (x1234 = x1228) (br0 x1228 (¬ x1228 = 0) (f_L_law_1328 a0 k23 (k - k1226) (n - n1227) l1 (some a1230) l3 l4 G1233 Q) (nn l3 (fun a1235 => ldJ G1233 a1235 0 (fun x1236 => ((R64 x1236 ∧ R64 x1232) ∧ br0 (sg x1236 x1232) ((sg x1236 x1232) = 0) (f_L_law_1328 a0 k23 (k - k1226) (n - n1227) l1 (some a1230) (some a1235) l4 G1233 Q) (Q false G1233)))))) (Q false G1233))))))))) (f_L_law_1331 a0 k23 k n l1 l2 l3 l4 G Q))))))))))))))))))))))))))))))))))))))))))))))
theorem w_L_law_23_b {a0 : Nat} {Q : Bool → Wd → Prop} {k23 : Nat → Nat → Option Nat → Option Nat → Option Nat → Int → Wd → Prop} (hk23 : ∀ {k n : Nat} {l1 : Option Nat} {l2 : Option Nat} {l3 : Option Nat} {l4 : Int} {G : Wd}, k23 k n l1 l2 l3 l4 G → wp m_L_law 227 k n 23 [some (vR (some a0)), some (vR l1), some (vR l2), some (vR l3), some (vI l4), none, none, none] [] G (qB Q) noX) {k n : Nat} {l1 : Option Nat} {l2 : Option Nat} {l3 : Option Nat} {l4 : Int} {G : Wd} (h : f_L_law_23_b a0 k23 k n l1 l2 l3 l4 G Q) : wp m_L_law 227 k n 23 [some (vR (some a0)), some (vR l1), some (vR l2), some (vR l3), some (vI l4), none, none, none] [] G (qB Q) noX := by
  unfold f_L_law_23_b at h
  refine r_iload dL_law_23 rfl iI ?_
  refine r_aload_n dL_law_25 rfl rfl iR ?_
  refine r_lenC dL_law_26 h (fun x829 h => ?_)
  refine r_iconst dL_law_27 ?_
  refine r_isub dL_law_28 ?_
  refine r_icmp_gt (tgt := 1337) dL_law_29 (by decide) h (fun h => ?_) (fun h => ?_)
  · refine r_iconst dL_law_1337 ?_
    refine wp.cast (st' := [vB true]) rfl (congrArg (fun q => [q]) vI1) ?_
    exact r_zret rfl dL_law_1338 ⟨_, rfl, h⟩
  · refine r_aload_n dL_law_32 rfl rfl iR ?_
    refine r_iload dL_law_33 rfl iI ?_
    refine r_ialdC dL_law_35 h (fun x830 h => ?_)
    refine r_bipush dL_law_36 (by decide) ?_
    refine r_iand dL_law_38 ?_
    obtain ⟨hr, h⟩ := h
    refine r_swc h (fun e0 h => ?_) (fun e0 h => ?_)
    · refine r_tsIn (tgt := 220) dL_law_39 hr e0 (by decide) (by decide) rfl (by decide) ?_
      refine r_aload_n dL_law_220 rfl rfl iR ?_
      refine r_aload_n dL_law_221 rfl rfl iR ?_
      refine r_iload dL_law_222 rfl iI ?_
      refine r_iconst dL_law_224 ?_
      refine r_iadd dL_law_225 ?_
      refine r_ialdC dL_law_226 h (fun x831 h => ?_)
      obtain ⟨a832, e, h⟩ := h
      refine wp.cast (L' := [some (vR (some a0)), some (vR (some a832)), some (vR l2), some (vR l3), some (vI l4), none, none, none]) (st' := [vI x831, vR (some a832)]) (by rw [e]) (by rw [e]) ?_
      obtain ⟨hC, h⟩ := h
      refine r_callV dL_law_227 hC (c_X1_sign h) q768 q769 q770 q92 q771 rfl yo_X1_sign rfl (by decide) (by decide) rfl rc0 (by decide) (Nat.zero_le _) (Nat.zero_le _) (ofI fun x834 G833 h => ?_) nox
      refine r_aload_n dL_law_230 rfl rfl iR ?_
      refine r_aload_n dL_law_231 rfl rfl iR ?_
      refine r_iload dL_law_232 rfl iI ?_
      refine r_iconst dL_law_234 ?_
      refine r_iadd dL_law_235 ?_
      refine r_ialdC dL_law_236 h (fun x835 h => ?_)
      obtain ⟨a836, e, h⟩ := h
      refine wp.cast (L' := [some (vR (some a0)), some (vR (some a832)), some (vR (some a836)), some (vR l3), some (vI l4), none, none, none]) (st' := [vI x835, vR (some a836), vI x834]) (by rw [e]) (by rw [e]) ?_
      refine r_tcI dL_law_237 (fun h hT hG => c_X4_sign h hT hG) h q2125 q2126 q2127 q117 q2128 rfl yo_X4_sign rfl (by decide) (by decide) rfl (rc1 c1I rc0) (by decide) (fun x838 G837 h => ?_)
      refine r_icmp_eq (tgt := 1331) dL_law_240 (by decide) h (fun h => ?_) (fun h => ?_)
      · exact w_L_law_1331 hk23 h
      · refine r_iconst dL_law_243 ?_
        refine wp.cast (st' := [vB false]) rfl (congrArg (fun q => [q]) vI0) ?_
        exact r_zret rfl dL_law_244 ⟨_, rfl, h⟩
    · refine r_swc h (fun e1 h => ?_) (fun e1 h => ?_)
      · refine r_tsIn (tgt := 245) dL_law_39 hr e1 (by decide) (by decide) rfl (by decide) ?_
        refine r_aload_n dL_law_245 rfl rfl iR ?_
        refine r_aload_n dL_law_246 rfl rfl iR ?_
        refine r_iload dL_law_247 rfl iI ?_
        refine r_iconst dL_law_249 ?_
        refine r_iadd dL_law_250 ?_
        refine r_ialdC dL_law_251 h (fun x839 h => ?_)
        obtain ⟨a840, e, h⟩ := h
        refine wp.cast (L' := [some (vR (some a0)), some (vR (some a840)), some (vR l2), some (vR l3), some (vI l4), none, none, none]) (st' := [vI x839, vR (some a840)]) (by rw [e]) (by rw [e]) ?_
        obtain ⟨hC, h⟩ := h
        refine r_callV dL_law_252 hC (c_X1_end h) q772 q773 q774 q92 q775 rfl yo_X1_end rfl (by decide) (by decide) rfl rc0 (by decide) (Nat.zero_le _) (Nat.zero_le _) (ofB fun x842 G841 h => ?_) nox
        refine r_aload_n dL_law_255 rfl rfl iR ?_
        refine r_aload_n dL_law_256 rfl rfl iR ?_
        refine r_iload dL_law_257 rfl iI ?_
        refine r_iconst dL_law_259 ?_
        refine r_iadd dL_law_260 ?_
        refine r_ialdC dL_law_261 h (fun x843 h => ?_)
        obtain ⟨a844, e, h⟩ := h
        refine wp.cast (L' := [some (vR (some a0)), some (vR (some a840)), some (vR (some a844)), some (vR l3), some (vI l4), none, none, none]) (st' := [vI x843, vR (some a844), vB x842]) (by rw [e]) (by rw [e]) ?_
        refine r_tcB dL_law_262 (fun h hT hG => c_X4_end h hT hG) h q2129 q2130 q2131 q117 q2132 rfl yo_X4_end rfl (by decide) (by decide) rfl (rc1 c1B rc0) (by decide) (fun x846 G845 h => ?_)
        refine wp.cast (st' := [vI (b2i x846), vB x842]) rfl (congrArg (fun q => [q, vB x842]) (vBI x846)) ?_
        refine wp.cast (st' := [vI (b2i x846), vI (b2i x842)]) rfl (congrArg (fun q => [vI (b2i x846), q]) (vBI x842)) ?_
        refine r_icmp_eq (tgt := 1331) dL_law_265 (by decide) h (fun h => ?_) (fun h => ?_)
        · exact w_L_law_1331 hk23 h
        · refine r_iconst dL_law_268 ?_
          refine wp.cast (st' := [vB false]) rfl (congrArg (fun q => [q]) vI0) ?_
          exact r_zret rfl dL_law_269 ⟨_, rfl, h⟩
      · refine r_swc h (fun e2 h => ?_) (fun e2 h => ?_)
        · refine r_tsIn (tgt := 270) dL_law_39 hr e2 (by decide) (by decide) rfl (by decide) ?_
          refine r_aload_n dL_law_270 rfl rfl iR ?_
          obtain ⟨a847, e, h⟩ := h
          refine wp.cast (L' := [some (vR (some a0)), some (vR (some a847)), some (vR l2), some (vR l3), some (vI l4), none, none, none]) (st' := [vR (some a847)]) (by rw [e]) (by rw [e]) ?_
          obtain ⟨k849, n850, ⟨hk1, hn1⟩, h⟩ := h
          obtain ⟨hC, h⟩ := h
          refine r_callVX dL_law_271 hC (c_X1_queues h) q779 q780 q781 q92 q782 rfl yo_X1_queues rfl (by decide) (by decide) rfl rc0 (by decide) hk1 hn1 (ofI fun x851 G848 h => ?_) nox
          refine r_aload_n dL_law_274 rfl rfl iR ?_
          obtain ⟨a852, e, h⟩ := h
          refine wp.cast (L' := [some (vR (some a0)), some (vR (some a847)), some (vR (some a852)), some (vR l3), some (vI l4), none, none, none]) (st' := [vR (some a852), vI x851]) (by rw [e]) (by rw [e]) ?_
          refine r_tcI dL_law_275 (fun h hT hG => c_X4_queues h hT hG) h q2357 q2358 q2359 q117 q2360 rfl yo_X4_queues rfl (by decide) (by decide) rfl (rc1 c1I rc0) (by decide) (fun x854 G853 h => ?_)
          refine r_icmp_eq (tgt := 1331) dL_law_278 (by decide) h (fun h => ?_) (fun h => ?_)
          · exact w_L_law_1331 hk23 h
          · refine r_iconst dL_law_281 ?_
            refine wp.cast (st' := [vB false]) rfl (congrArg (fun q => [q]) vI0) ?_
            exact r_zret rfl dL_law_282 ⟨_, rfl, h⟩
        · refine r_swc h (fun e3 h => ?_) (fun e3 h => ?_)
          · refine r_tsIn (tgt := 283) dL_law_39 hr e3 (by decide) (by decide) rfl (by decide) ?_
            refine r_aload_n dL_law_283 rfl rfl iR ?_
            obtain ⟨a855, e, h⟩ := h
            refine wp.cast (L' := [some (vR (some a0)), some (vR (some a855)), some (vR l2), some (vR l3), some (vI l4), none, none, none]) (st' := [vR (some a855)]) (by rw [e]) (by rw [e]) ?_
            obtain ⟨k857, n858, ⟨hk1, hn1⟩, h⟩ := h
            obtain ⟨hC, h⟩ := h
            refine r_callVX dL_law_284 hC (c_X1_rule h) q938 q939 q940 q92 q941 rfl yo_X1_rule rfl (by decide) (by decide) rfl rc0 (by decide) hk1 hn1 (ofI fun x859 G856 h => ?_) nox
            refine r_aload_n dL_law_287 rfl rfl iR ?_
            obtain ⟨a860, e, h⟩ := h
            refine wp.cast (L' := [some (vR (some a0)), some (vR (some a855)), some (vR (some a860)), some (vR l3), some (vI l4), none, none, none]) (st' := [vR (some a860), vI x859]) (by rw [e]) (by rw [e]) ?_
            refine r_tcI dL_law_288 (fun h hT hG => c_X4_rule h hT hG) h q2136 q2137 q2138 q117 q2139 rfl yo_X4_rule rfl (by decide) (by decide) rfl (rc1 c1I rc0) (by decide) (fun x862 G861 h => ?_)
            refine r_icmp_eq (tgt := 1331) dL_law_291 (by decide) h (fun h => ?_) (fun h => ?_)
            · exact w_L_law_1331 hk23 h
            · refine r_iconst dL_law_294 ?_
              refine wp.cast (st' := [vB false]) rfl (congrArg (fun q => [q]) vI0) ?_
              exact r_zret rfl dL_law_295 ⟨_, rfl, h⟩
          · refine r_swc h (fun e4 h => ?_) (fun e4 h => ?_)
            · refine r_tsIn (tgt := 296) dL_law_39 hr e4 (by decide) (by decide) rfl (by decide) ?_
              refine r_aload_n dL_law_296 rfl rfl iR ?_
              refine r_aload_n dL_law_297 rfl rfl iR ?_
              refine r_iload dL_law_298 rfl iI ?_
              refine r_iconst dL_law_300 ?_
              refine r_iadd dL_law_301 ?_
              refine r_ialdC dL_law_302 h (fun x863 h => ?_)
              refine r_aload_n dL_law_303 rfl rfl iR ?_
              refine r_iload dL_law_304 rfl iI ?_
              refine r_iconst dL_law_306 ?_
              refine r_iadd dL_law_307 ?_
              refine r_ialdC dL_law_308 h (fun x864 h => ?_)
              refine r_aload_n dL_law_309 rfl rfl iR ?_
              obtain ⟨k866, n867, ⟨hk1, hn1⟩, h⟩ := h
              refine r_callSX dL_law_310 (c_X0_queue h) q2104 q2105 q91 q2106 yo_X0_queue rfl (by decide) (by decide) rfl rc0 (by decide) hk1 hn1 (ofI fun x868 G865 h => ?_) nox
              refine r_istore (L' := [some (vR (some a0)), some (vR l1), some (vR l2), some (vR l3), some (vI l4), some (vI x868), none, none]) dL_law_313 rfl iI cI (by decide) ?_
              refine r_aload_n dL_law_315 rfl rfl iR ?_
              refine r_aload_n dL_law_316 rfl rfl iR ?_
              refine r_iload dL_law_317 rfl iI ?_
              refine r_iconst dL_law_319 ?_
              refine r_iadd dL_law_320 ?_
              refine r_ialdC dL_law_321 h (fun x869 h => ?_)
              refine r_aload_n dL_law_322 rfl rfl iR ?_
              refine r_iload dL_law_323 rfl iI ?_
              refine r_iconst dL_law_325 ?_
              refine r_iadd dL_law_326 ?_
              refine r_ialdC dL_law_327 h (fun x870 h => ?_)
              obtain ⟨a871, e, h⟩ := h
              refine wp.cast (L' := [some (vR (some a0)), some (vR l1), some (vR (some a871)), some (vR l3), some (vI l4), some (vI x868), none, none]) (st' := [vI x870, vI x869, vR (some a871)]) (by rw [e]) (by rw [e]) ?_
              refine r_tcI dL_law_328 (fun h hT hG => c_X4_queue h hT hG) h q2366 q2367 q2368 q117 q2369 rfl yo_X4_queue rfl (by decide) (by decide) rfl rc0 (by decide) (fun x873 G872 h => ?_)
              refine r_istore (L' := [some (vR (some a0)), some (vR l1), some (vR (some a871)), some (vR l3), some (vI l4), some (vI x868), some (vI x873), none]) dL_law_331 rfl iI cI (by decide) ?_
              refine r_aload_n dL_law_333 rfl rfl iR ?_
              refine r_tcI dL_law_334 (fun h hT hG => c_X4_thrown h hT hG) h q2121 q2122 q2123 q117 q2124 rfl yo_X4_thrown rfl (by decide) (by decide) rfl rc0 (by decide) (fun x875 G874 h => ?_)
              refine r_iload dL_law_337 rfl iI ?_
              refine r_icmp_eq (tgt := 344) dL_law_339 (by decide) h (fun h => ?_) (fun h => ?_)
              · refine r_iload dL_law_344 rfl iI ?_
                refine r_if_ne (tgt := 361) dL_law_346 (by decide) h (fun h => ?_) (fun h => ?_)
                · refine wp.locals (L' := [some (vR (some a0)), some (vR l1), some (vR (some a871)), some (vR l3), some (vI l4), none, none, none]) (ls_s (ls_s (ls_s (ls_s (ls_s (ls_n (ls_n (ls_n ls_0)))))))) ?_
                  exact w_L_law_361 hk23 h
                · refine r_aload_n dL_law_349 rfl rfl iR ?_
                  refine r_iconst dL_law_350 ?_
                  obtain ⟨a876, e, h⟩ := h
                  refine wp.cast (L' := [some (vR (some a0)), some (vR l1), some (vR (some a871)), some (vR (some a876)), some (vI l4), some (vI x868), some (vI x873), none]) (st' := [vI 0, vR (some a876)]) (by rw [e]) (by rw [e]) ?_
                  refine r_lald dL_law_351 h (fun x877 h => ?_)
                  refine r_iload dL_law_352 rfl iI ?_
                  refine r_i2l dL_law_354 h (fun h => ?_)
                  refine r_lcmp dL_law_355 h (fun h => ?_)
                  refine r_if_eq (tgt := 361) dL_law_356 (by decide) h (fun h => ?_) (fun h => ?_)
                  · refine wp.locals (L' := [some (vR (some a0)), some (vR l1), some (vR (some a871)), some (vR (some a876)), some (vI l4), none, none, none]) (ls_s (ls_s (ls_s (ls_s (ls_s (ls_n (ls_n (ls_n ls_0)))))))) ?_
                    exact w_L_law_361 hk23 h
                  · refine r_iconst dL_law_359 ?_
                    refine wp.cast (st' := [vB false]) rfl (congrArg (fun q => [q]) vI0) ?_
                    exact r_zret rfl dL_law_360 ⟨_, rfl, h⟩
              · refine r_iconst dL_law_342 ?_
                refine wp.cast (st' := [vB false]) rfl (congrArg (fun q => [q]) vI0) ?_
                exact r_zret rfl dL_law_343 ⟨_, rfl, h⟩
            · refine r_swc h (fun e5 h => ?_) (fun e5 h => ?_)
              · refine r_tsIn (tgt := 364) dL_law_39 hr e5 (by decide) (by decide) rfl (by decide) ?_
                refine r_aload_n dL_law_364 rfl rfl iR ?_
                refine r_aload_n dL_law_365 rfl rfl iR ?_
                refine r_iload dL_law_366 rfl iI ?_
                refine r_iconst dL_law_368 ?_
                refine r_iadd dL_law_369 ?_
                refine r_ialdC dL_law_370 h (fun x878 h => ?_)
                refine r_aload_n dL_law_371 rfl rfl iR ?_
                refine r_iload dL_law_372 rfl iI ?_
                refine r_iconst dL_law_374 ?_
                refine r_iadd dL_law_375 ?_
                refine r_ialdC dL_law_376 h (fun x879 h => ?_)
                refine r_aload_n dL_law_377 rfl rfl iR ?_
                refine r_iload dL_law_378 rfl iI ?_
                refine r_iconst dL_law_380 ?_
                refine r_iadd dL_law_381 ?_
                refine r_ialdC dL_law_382 h (fun x880 h => ?_)
                refine r_aload_n dL_law_383 rfl rfl iR ?_
                refine r_iload dL_law_384 rfl iI ?_
                refine r_iconst dL_law_386 ?_
                refine r_iadd dL_law_387 ?_
                refine r_ialdC dL_law_388 h (fun x881 h => ?_)
                obtain ⟨a882, e, h⟩ := h
                refine wp.cast (L' := [some (vR (some a0)), some (vR (some a882)), some (vR l2), some (vR l3), some (vI l4), none, none, none]) (st' := [vI x881, vI x880, vI x879, vI x878, vR (some a882)]) (by rw [e]) (by rw [e]) ?_
                obtain ⟨k884, n885, ⟨hk1, hn1⟩, h⟩ := h
                obtain ⟨hC, h⟩ := h
                refine r_callVX dL_law_389 hC (c_X1_sheet h) q1022 q1023 q1024 q92 q1025 rfl yo_X1_sheet rfl (by decide) (by decide) rfl rc0 (by decide) hk1 hn1 (ofI fun x886 G883 h => ?_) nox
                refine r_aload_n dL_law_392 rfl rfl iR ?_
                refine r_aload_n dL_law_393 rfl rfl iR ?_
                refine r_iload dL_law_394 rfl iI ?_
                refine r_iconst dL_law_396 ?_
                refine r_iadd dL_law_397 ?_
                refine r_ialdC dL_law_398 h (fun x887 h => ?_)
                refine r_aload_n dL_law_399 rfl rfl iR ?_
                refine r_iload dL_law_400 rfl iI ?_
                refine r_iconst dL_law_402 ?_
                refine r_iadd dL_law_403 ?_
                refine r_ialdC dL_law_404 h (fun x888 h => ?_)
                refine r_aload_n dL_law_405 rfl rfl iR ?_
                refine r_iload dL_law_406 rfl iI ?_
                refine r_iconst dL_law_408 ?_
                refine r_iadd dL_law_409 ?_
                refine r_ialdC dL_law_410 h (fun x889 h => ?_)
                refine r_aload_n dL_law_411 rfl rfl iR ?_
                refine r_iload dL_law_412 rfl iI ?_
                refine r_iconst dL_law_414 ?_
                refine r_iadd dL_law_415 ?_
                refine r_ialdC dL_law_416 h (fun x890 h => ?_)
                obtain ⟨a891, e, h⟩ := h
                refine wp.cast (L' := [some (vR (some a0)), some (vR (some a882)), some (vR (some a891)), some (vR l3), some (vI l4), none, none, none]) (st' := [vI x890, vI x889, vI x888, vI x887, vR (some a891), vI x886]) (by rw [e]) (by rw [e]) ?_
                refine r_tcI dL_law_417 (fun h hT hG => c_X4_sheet h hT hG) h q2382 q2383 q2384 q117 q2385 rfl yo_X4_sheet rfl (by decide) (by decide) rfl (rc1 c1I rc0) (by decide) (fun x893 G892 h => ?_)
                refine r_icmp_eq (tgt := 1331) dL_law_420 (by decide) h (fun h => ?_) (fun h => ?_)
                · exact w_L_law_1331 hk23 h
                · refine r_iconst dL_law_423 ?_
                  refine wp.cast (st' := [vB false]) rfl (congrArg (fun q => [q]) vI0) ?_
                  exact r_zret rfl dL_law_424 ⟨_, rfl, h⟩
              · refine r_swc h (fun e6 h => ?_) (fun e6 h => ?_)
                · refine r_tsIn (tgt := 425) dL_law_39 hr e6 (by decide) (by decide) rfl (by decide) ?_
                  refine r_aload_n dL_law_425 rfl rfl iR ?_
                  refine r_aload_n dL_law_426 rfl rfl iR ?_
                  refine r_iload dL_law_427 rfl iI ?_
                  refine r_iconst dL_law_429 ?_
                  refine r_iadd dL_law_430 ?_
                  refine r_ialdC dL_law_431 h (fun x894 h => ?_)
                  refine r_aload_n dL_law_432 rfl rfl iR ?_
                  refine r_iload dL_law_433 rfl iI ?_
                  refine r_iconst dL_law_435 ?_
                  refine r_iadd dL_law_436 ?_
                  refine r_ialdC dL_law_437 h (fun x895 h => ?_)
                  refine r_aload_n dL_law_438 rfl rfl iR ?_
                  refine r_iload dL_law_439 rfl iI ?_
                  refine r_iconst dL_law_441 ?_
                  refine r_iadd dL_law_442 ?_
                  refine r_ialdC dL_law_443 h (fun x896 h => ?_)
                  refine r_aload_n dL_law_444 rfl rfl iR ?_
                  refine r_iload dL_law_445 rfl iI ?_
                  refine r_iconst dL_law_447 ?_
                  refine r_iadd dL_law_448 ?_
                  refine r_ialdC dL_law_449 h (fun x897 h => ?_)
                  obtain ⟨a898, e, h⟩ := h
                  refine wp.cast (L' := [some (vR (some a0)), some (vR (some a898)), some (vR l2), some (vR l3), some (vI l4), none, none, none]) (st' := [vI x897, vI x896, vI x895, vI x894, vR (some a898)]) (by rw [e]) (by rw [e]) ?_
                  obtain ⟨k900, n901, ⟨hk1, hn1⟩, h⟩ := h
                  obtain ⟨hC, h⟩ := h
                  refine r_callV dL_law_450 hC (c_X1_puts h) q1043 q1044 q1045 q92 q1046 rfl yo_X1_puts rfl (by decide) (by decide) rfl rc0 (by decide) hk1 hn1 (ofI fun x902 G899 h => ?_) nox
                  refine r_aload_n dL_law_453 rfl rfl iR ?_
                  refine r_aload_n dL_law_454 rfl rfl iR ?_
                  refine r_iload dL_law_455 rfl iI ?_
                  refine r_iconst dL_law_457 ?_
                  refine r_iadd dL_law_458 ?_
                  refine r_ialdC dL_law_459 h (fun x903 h => ?_)
                  refine r_aload_n dL_law_460 rfl rfl iR ?_
                  refine r_iload dL_law_461 rfl iI ?_
                  refine r_iconst dL_law_463 ?_
                  refine r_iadd dL_law_464 ?_
                  refine r_ialdC dL_law_465 h (fun x904 h => ?_)
                  refine r_aload_n dL_law_466 rfl rfl iR ?_
                  refine r_iload dL_law_467 rfl iI ?_
                  refine r_iconst dL_law_469 ?_
                  refine r_iadd dL_law_470 ?_
                  refine r_ialdC dL_law_471 h (fun x905 h => ?_)
                  refine r_aload_n dL_law_472 rfl rfl iR ?_
                  refine r_iload dL_law_473 rfl iI ?_
                  refine r_iconst dL_law_475 ?_
                  refine r_iadd dL_law_476 ?_
                  refine r_ialdC dL_law_477 h (fun x906 h => ?_)
                  obtain ⟨a907, e, h⟩ := h
                  refine wp.cast (L' := [some (vR (some a0)), some (vR (some a898)), some (vR (some a907)), some (vR l3), some (vI l4), none, none, none]) (st' := [vI x906, vI x905, vI x904, vI x903, vR (some a907), vI x902]) (by rw [e]) (by rw [e]) ?_
                  refine r_tcI dL_law_478 (fun h hT hG => c_X4_puts h hT hG) h q2395 q2396 q2397 q117 q2398 rfl yo_X4_puts rfl (by decide) (by decide) rfl (rc1 c1I rc0) (by decide) (fun x909 G908 h => ?_)
                  refine r_icmp_eq (tgt := 1331) dL_law_481 (by decide) h (fun h => ?_) (fun h => ?_)
                  · exact w_L_law_1331 hk23 h
                  · refine r_iconst dL_law_484 ?_
                    refine wp.cast (st' := [vB false]) rfl (congrArg (fun q => [q]) vI0) ?_
                    exact r_zret rfl dL_law_485 ⟨_, rfl, h⟩
                · refine r_swc h (fun e7 h => ?_) (fun e7 h => ?_)
                  · refine r_tsIn (tgt := 486) dL_law_39 hr e7 (by decide) (by decide) rfl (by decide) ?_
                    refine r_aload_n dL_law_486 rfl rfl iR ?_
                    refine r_aload_n dL_law_487 rfl rfl iR ?_
                    refine r_iload dL_law_488 rfl iI ?_
                    refine r_iconst dL_law_490 ?_
                    refine r_iadd dL_law_491 ?_
                    refine r_ialdC dL_law_492 h (fun x910 h => ?_)
                    obtain ⟨a911, e, h⟩ := h
                    refine wp.cast (L' := [some (vR (some a0)), some (vR (some a911)), some (vR l2), some (vR l3), some (vI l4), none, none, none]) (st' := [vI x910, vR (some a911)]) (by rw [e]) (by rw [e]) ?_
                    obtain ⟨k913, n914, ⟨hk1, hn1⟩, h⟩ := h
                    obtain ⟨hC, h⟩ := h
                    refine r_callV dL_law_493 hC (c_X1_ring h) q1494 q1495 q1496 q92 q1497 rfl yo_X1_ring rfl (by decide) (by decide) rfl rc0 (by decide) hk1 hn1 (ofI fun x915 G912 h => ?_) nox
                    refine r_aload_n dL_law_496 rfl rfl iR ?_
                    refine r_aload_n dL_law_497 rfl rfl iR ?_
                    refine r_iload dL_law_498 rfl iI ?_
                    refine r_iconst dL_law_500 ?_
                    refine r_iadd dL_law_501 ?_
                    refine r_ialdC dL_law_502 h (fun x916 h => ?_)
                    obtain ⟨a917, e, h⟩ := h
                    refine wp.cast (L' := [some (vR (some a0)), some (vR (some a911)), some (vR (some a917)), some (vR l3), some (vI l4), none, none, none]) (st' := [vI x916, vR (some a917), vI x915]) (by rw [e]) (by rw [e]) ?_
                    refine r_tcI dL_law_503 (fun h hT hG => c_X4_ring h hT hG) h q2454 q2455 q2456 q117 q2457 rfl yo_X4_ring rfl (by decide) (by decide) rfl (rc1 c1I rc0) (by decide) (fun x919 G918 h => ?_)
                    refine r_icmp_eq (tgt := 1331) dL_law_506 (by decide) h (fun h => ?_) (fun h => ?_)
                    · exact w_L_law_1331 hk23 h
                    · refine r_iconst dL_law_509 ?_
                      refine wp.cast (st' := [vB false]) rfl (congrArg (fun q => [q]) vI0) ?_
                      exact r_zret rfl dL_law_510 ⟨_, rfl, h⟩
                  · refine r_swc h (fun e8 h => ?_) (fun e8 h => ?_)
                    · refine r_tsIn (tgt := 511) dL_law_39 hr e8 (by decide) (by decide) rfl (by decide) ?_
                      refine r_aload_n dL_law_511 rfl rfl iR ?_
                      refine r_aload_n dL_law_512 rfl rfl iR ?_
                      refine r_iload dL_law_513 rfl iI ?_
                      refine r_iconst dL_law_515 ?_
                      refine r_iadd dL_law_516 ?_
                      refine r_ialdC dL_law_517 h (fun x920 h => ?_)
                      obtain ⟨a921, e, h⟩ := h
                      refine wp.cast (L' := [some (vR (some a0)), some (vR (some a921)), some (vR l2), some (vR l3), some (vI l4), none, none, none]) (st' := [vI x920, vR (some a921)]) (by rw [e]) (by rw [e]) ?_
                      obtain ⟨k923, n924, ⟨hk1, hn1⟩, h⟩ := h
                      obtain ⟨hC, h⟩ := h
                      refine r_callV dL_law_518 hC (c_X1_ticks h) q1511 q1512 q1513 q92 q1514 rfl yo_X1_ticks rfl (by decide) (by decide) rfl rc0 (by decide) hk1 hn1 (ofI fun x925 G922 h => ?_) nox
                      refine r_aload_n dL_law_521 rfl rfl iR ?_
                      refine r_aload_n dL_law_522 rfl rfl iR ?_
                      refine r_iload dL_law_523 rfl iI ?_
                      refine r_iconst dL_law_525 ?_
                      refine r_iadd dL_law_526 ?_
                      refine r_ialdC dL_law_527 h (fun x926 h => ?_)
                      obtain ⟨a927, e, h⟩ := h
                      refine wp.cast (L' := [some (vR (some a0)), some (vR (some a921)), some (vR (some a927)), some (vR l3), some (vI l4), none, none, none]) (st' := [vI x926, vR (some a927), vI x925]) (by rw [e]) (by rw [e]) ?_
                      refine r_tcI dL_law_528 (fun h hT hG => c_X4_ticks h hT hG) h q2462 q2463 q2464 q117 q2465 rfl yo_X4_ticks rfl (by decide) (by decide) rfl (rc1 c1I rc0) (by decide) (fun x929 G928 h => ?_)
                      refine r_icmp_eq (tgt := 1331) dL_law_531 (by decide) h (fun h => ?_) (fun h => ?_)
                      · exact w_L_law_1331 hk23 h
                      · refine r_iconst dL_law_534 ?_
                        refine wp.cast (st' := [vB false]) rfl (congrArg (fun q => [q]) vI0) ?_
                        exact r_zret rfl dL_law_535 ⟨_, rfl, h⟩
                    · refine r_swc h (fun e9 h => ?_) (fun e9 h => ?_)
                      · refine r_tsIn (tgt := 536) dL_law_39 hr e9 (by decide) (by decide) rfl (by decide) ?_
                        refine r_aload_n dL_law_536 rfl rfl iR ?_
                        refine r_aload_n dL_law_537 rfl rfl iR ?_
                        refine r_iload dL_law_538 rfl iI ?_
                        refine r_iconst dL_law_540 ?_
                        refine r_iadd dL_law_541 ?_
                        refine r_ialdC dL_law_542 h (fun x930 h => ?_)
                        obtain ⟨a931, e, h⟩ := h
                        refine wp.cast (L' := [some (vR (some a0)), some (vR (some a931)), some (vR l2), some (vR l3), some (vI l4), none, none, none]) (st' := [vI x930, vR (some a931)]) (by rw [e]) (by rw [e]) ?_
                        obtain ⟨k933, n934, ⟨hk1, hn1⟩, h⟩ := h
                        obtain ⟨hC, h⟩ := h
                        refine r_callV dL_law_543 hC (c_X1_takes h) q1765 q1766 q1767 q92 q1768 rfl yo_X1_takes rfl (by decide) (by decide) rfl rc0 (by decide) hk1 hn1 (ofI fun x935 G932 h => ?_) nox
                        refine r_aload_n dL_law_546 rfl rfl iR ?_
                        refine r_aload_n dL_law_547 rfl rfl iR ?_
                        refine r_iload dL_law_548 rfl iI ?_
                        refine r_iconst dL_law_550 ?_
                        refine r_iadd dL_law_551 ?_
                        refine r_ialdC dL_law_552 h (fun x936 h => ?_)
                        obtain ⟨a937, e, h⟩ := h
                        refine wp.cast (L' := [some (vR (some a0)), some (vR (some a931)), some (vR (some a937)), some (vR l3), some (vI l4), none, none, none]) (st' := [vI x936, vR (some a937), vI x935]) (by rw [e]) (by rw [e]) ?_
                        refine r_tcI dL_law_553 (fun h hT hG => c_X4_takes h hT hG) h q2540 q2541 q2542 q117 q2543 rfl yo_X4_takes rfl (by decide) (by decide) rfl (rc1 c1I rc0) (by decide) (fun x939 G938 h => ?_)
                        refine r_icmp_eq (tgt := 1331) dL_law_556 (by decide) h (fun h => ?_) (fun h => ?_)
                        · exact w_L_law_1331 hk23 h
                        · refine r_iconst dL_law_559 ?_
                          refine wp.cast (st' := [vB false]) rfl (congrArg (fun q => [q]) vI0) ?_
                          exact r_zret rfl dL_law_560 ⟨_, rfl, h⟩
                      · refine r_swc h (fun e10 h => ?_) (fun e10 h => ?_)
                        · refine r_tsIn (tgt := 561) dL_law_39 hr e10 (by decide) (by decide) rfl (by decide) ?_
                          refine r_aload_n dL_law_561 rfl rfl iR ?_
                          refine r_aload_n dL_law_562 rfl rfl iR ?_
                          refine r_iload dL_law_563 rfl iI ?_
                          refine r_iconst dL_law_565 ?_
                          refine r_iadd dL_law_566 ?_
                          refine r_ialdC dL_law_567 h (fun x940 h => ?_)
                          refine r_aload_n dL_law_568 rfl rfl iR ?_
                          refine r_iload dL_law_569 rfl iI ?_
                          refine r_iconst dL_law_571 ?_
                          refine r_iadd dL_law_572 ?_
                          refine r_ialdC dL_law_573 h (fun x941 h => ?_)
                          obtain ⟨a942, e, h⟩ := h
                          refine wp.cast (L' := [some (vR (some a0)), some (vR (some a942)), some (vR l2), some (vR l3), some (vI l4), none, none, none]) (st' := [vI x941, vI x940, vR (some a942)]) (by rw [e]) (by rw [e]) ?_
                          obtain ⟨k944, n945, ⟨hk1, hn1⟩, h⟩ := h
                          obtain ⟨hC, h⟩ := h
                          refine r_callV dL_law_574 hC (c_X1_calls h) q1789 q1790 q1791 q92 q1792 rfl yo_X1_calls rfl (by decide) (by decide) rfl rc0 (by decide) hk1 hn1 (ofI fun x946 G943 h => ?_) nox
                          refine r_aload_n dL_law_577 rfl rfl iR ?_
                          refine r_aload_n dL_law_578 rfl rfl iR ?_
                          refine r_iload dL_law_579 rfl iI ?_
                          refine r_iconst dL_law_581 ?_
                          refine r_iadd dL_law_582 ?_
                          refine r_ialdC dL_law_583 h (fun x947 h => ?_)
                          refine r_aload_n dL_law_584 rfl rfl iR ?_
                          refine r_iload dL_law_585 rfl iI ?_
                          refine r_iconst dL_law_587 ?_
                          refine r_iadd dL_law_588 ?_
                          refine r_ialdC dL_law_589 h (fun x948 h => ?_)
                          obtain ⟨a949, e, h⟩ := h
                          refine wp.cast (L' := [some (vR (some a0)), some (vR (some a942)), some (vR (some a949)), some (vR l3), some (vI l4), none, none, none]) (st' := [vI x948, vI x947, vR (some a949), vI x946]) (by rw [e]) (by rw [e]) ?_
                          refine r_tcI dL_law_590 (fun h hT hG => c_X4_calls h hT hG) h q2548 q2549 q2550 q117 q2551 rfl yo_X4_calls rfl (by decide) (by decide) rfl (rc1 c1I rc0) (by decide) (fun x951 G950 h => ?_)
                          refine r_icmp_eq (tgt := 1331) dL_law_593 (by decide) h (fun h => ?_) (fun h => ?_)
                          · exact w_L_law_1331 hk23 h
                          · refine r_iconst dL_law_596 ?_
                            refine wp.cast (st' := [vB false]) rfl (congrArg (fun q => [q]) vI0) ?_
                            exact r_zret rfl dL_law_597 ⟨_, rfl, h⟩
                        · refine r_swc h (fun e11 h => ?_) (fun e11 h => ?_)
                          · refine r_tsIn (tgt := 598) dL_law_39 hr e11 (by decide) (by decide) rfl (by decide) ?_
                            refine r_aload_n dL_law_598 rfl rfl iR ?_
                            obtain ⟨a952, e, h⟩ := h
                            refine wp.cast (L' := [some (vR (some a0)), some (vR (some a952)), some (vR l2), some (vR l3), some (vI l4), none, none, none]) (st' := [vR (some a952)]) (by rw [e]) (by rw [e]) ?_
                            obtain ⟨k954, n955, ⟨hk1, hn1⟩, h⟩ := h
                            obtain ⟨hC, h⟩ := h
                            refine r_callV dL_law_599 hC (c_X1_resets h) q1828 q1829 q1830 q92 q1831 rfl yo_X1_resets rfl (by decide) (by decide) rfl rc0 (by decide) hk1 hn1 (ofI fun x956 G953 h => ?_) nox
                            refine r_aload_n dL_law_602 rfl rfl iR ?_
                            obtain ⟨a957, e, h⟩ := h
                            refine wp.cast (L' := [some (vR (some a0)), some (vR (some a952)), some (vR (some a957)), some (vR l3), some (vI l4), none, none, none]) (st' := [vR (some a957), vI x956]) (by rw [e]) (by rw [e]) ?_
                            refine r_tcI dL_law_603 (fun h hT hG => c_X4_resets h hT hG) h q2561 q2562 q2563 q117 q2564 rfl yo_X4_resets rfl (by decide) (by decide) rfl (rc1 c1I rc0) (by decide) (fun x959 G958 h => ?_)
                            refine r_icmp_eq (tgt := 1331) dL_law_606 (by decide) h (fun h => ?_) (fun h => ?_)
                            · exact w_L_law_1331 hk23 h
                            · refine r_iconst dL_law_609 ?_
                              refine wp.cast (st' := [vB false]) rfl (congrArg (fun q => [q]) vI0) ?_
                              exact r_zret rfl dL_law_610 ⟨_, rfl, h⟩
                          · refine r_swc h (fun e12 h => ?_) (fun e12 h => ?_)
                            · refine r_tsIn (tgt := 611) dL_law_39 hr e12 (by decide) (by decide) rfl (by decide) ?_
                              refine r_aload_n dL_law_611 rfl rfl iR ?_
                              refine r_aload_n dL_law_612 rfl rfl iR ?_
                              refine r_iload dL_law_613 rfl iI ?_
                              refine r_iconst dL_law_615 ?_
                              refine r_iadd dL_law_616 ?_
                              refine r_ialdC dL_law_617 h (fun x960 h => ?_)
                              refine r_aload_n dL_law_618 rfl rfl iR ?_
                              refine r_iload dL_law_619 rfl iI ?_
                              refine r_iconst dL_law_621 ?_
                              refine r_iadd dL_law_622 ?_
                              refine r_ialdC dL_law_623 h (fun x961 h => ?_)
                              obtain ⟨a962, e, h⟩ := h
                              refine wp.cast (L' := [some (vR (some a0)), some (vR (some a962)), some (vR l2), some (vR l3), some (vI l4), none, none, none]) (st' := [vI x961, vI x960, vR (some a962)]) (by rw [e]) (by rw [e]) ?_
                              obtain ⟨k964, n965, ⟨hk1, hn1⟩, h⟩ := h
                              obtain ⟨hC, h⟩ := h
                              refine r_callV dL_law_624 hC (c_X1_weighs h) q1854 q1855 q1856 q92 q1857 rfl yo_X1_weighs rfl (by decide) (by decide) rfl rc0 (by decide) hk1 hn1 (ofI fun x966 G963 h => ?_) nox
                              refine r_aload_n dL_law_627 rfl rfl iR ?_
                              refine r_aload_n dL_law_628 rfl rfl iR ?_
                              refine r_iload dL_law_629 rfl iI ?_
                              refine r_iconst dL_law_631 ?_
                              refine r_iadd dL_law_632 ?_
                              refine r_ialdC dL_law_633 h (fun x967 h => ?_)
                              refine r_aload_n dL_law_634 rfl rfl iR ?_
                              refine r_iload dL_law_635 rfl iI ?_
                              refine r_iconst dL_law_637 ?_
                              refine r_iadd dL_law_638 ?_
                              refine r_ialdC dL_law_639 h (fun x968 h => ?_)
                              obtain ⟨a969, e, h⟩ := h
                              refine wp.cast (L' := [some (vR (some a0)), some (vR (some a962)), some (vR (some a969)), some (vR l3), some (vI l4), none, none, none]) (st' := [vI x968, vI x967, vR (some a969), vI x966]) (by rw [e]) (by rw [e]) ?_
                              refine r_tcI dL_law_640 (fun h hT hG => c_X4_weighs h hT hG) h q2569 q2570 q2571 q117 q2572 rfl yo_X4_weighs rfl (by decide) (by decide) rfl (rc1 c1I rc0) (by decide) (fun x971 G970 h => ?_)
                              refine r_icmp_eq (tgt := 1331) dL_law_643 (by decide) h (fun h => ?_) (fun h => ?_)
                              · exact w_L_law_1331 hk23 h
                              · refine r_iconst dL_law_646 ?_
                                refine wp.cast (st' := [vB false]) rfl (congrArg (fun q => [q]) vI0) ?_
                                exact r_zret rfl dL_law_647 ⟨_, rfl, h⟩
                            · refine r_swc h (fun e13 h => ?_) (fun e13 h => ?_)
                              · refine r_tsIn (tgt := 648) dL_law_39 hr e13 (by decide) (by decide) rfl (by decide) ?_
                                refine r_aload_n dL_law_648 rfl rfl iR ?_
                                refine r_aload_n dL_law_649 rfl rfl iR ?_
                                refine r_iload dL_law_650 rfl iI ?_
                                refine r_iconst dL_law_652 ?_
                                refine r_iadd dL_law_653 ?_
                                refine r_ialdC dL_law_654 h (fun x972 h => ?_)
                                obtain ⟨a973, e, h⟩ := h
                                refine wp.cast (L' := [some (vR (some a0)), some (vR (some a973)), some (vR l2), some (vR l3), some (vI l4), none, none, none]) (st' := [vI x972, vR (some a973)]) (by rw [e]) (by rw [e]) ?_
                                obtain ⟨k975, n976, ⟨hk1, hn1⟩, h⟩ := h
                                obtain ⟨hC, h⟩ := h
                                refine r_callV dL_law_655 hC (c_X1_depth h) q1858 q1859 q1860 q92 q1861 rfl yo_X1_depth rfl (by decide) (by decide) rfl rc0 (by decide) hk1 hn1 (ofI fun x977 G974 h => ?_) nox
                                refine r_aload_n dL_law_658 rfl rfl iR ?_
                                refine r_aload_n dL_law_659 rfl rfl iR ?_
                                refine r_iload dL_law_660 rfl iI ?_
                                refine r_iconst dL_law_662 ?_
                                refine r_iadd dL_law_663 ?_
                                refine r_ialdC dL_law_664 h (fun x978 h => ?_)
                                obtain ⟨a979, e, h⟩ := h
                                refine wp.cast (L' := [some (vR (some a0)), some (vR (some a973)), some (vR (some a979)), some (vR l3), some (vI l4), none, none, none]) (st' := [vI x978, vR (some a979), vI x977]) (by rw [e]) (by rw [e]) ?_
                                refine r_tcI dL_law_665 (fun h hT hG => c_X4_depth h hT hG) h q2576 q2577 q2578 q117 q2579 rfl yo_X4_depth rfl (by decide) (by decide) rfl (rc1 c1I rc0) (by decide) (fun x981 G980 h => ?_)
                                refine r_icmp_eq (tgt := 1331) dL_law_668 (by decide) h (fun h => ?_) (fun h => ?_)
                                · exact w_L_law_1331 hk23 h
                                · refine r_iconst dL_law_671 ?_
                                  refine wp.cast (st' := [vB false]) rfl (congrArg (fun q => [q]) vI0) ?_
                                  exact r_zret rfl dL_law_672 ⟨_, rfl, h⟩
                              · refine r_swc h (fun e14 h => ?_) (fun e14 h => ?_)
                                · refine r_tsIn (tgt := 673) dL_law_39 hr e14 (by decide) (by decide) rfl (by decide) ?_
                                  refine r_aload_n dL_law_673 rfl rfl iR ?_
                                  obtain ⟨a982, e, h⟩ := h
                                  refine wp.cast (L' := [some (vR (some a0)), some (vR (some a982)), some (vR l2), some (vR l3), some (vI l4), none, none, none]) (st' := [vR (some a982)]) (by rw [e]) (by rw [e]) ?_
                                  obtain ⟨k984, n985, ⟨hk1, hn1⟩, h⟩ := h
                                  obtain ⟨hC, h⟩ := h
                                  refine r_callVX dL_law_674 hC (c_X1_day h) q1862 q1863 q1864 q92 q1865 rfl yo_X1_day rfl (by decide) (by decide) rfl rc0 (by decide) hk1 hn1 (ofI fun x986 G983 h => ?_) nox
                                  refine r_aload_n dL_law_677 rfl rfl iR ?_
                                  obtain ⟨a987, e, h⟩ := h
                                  refine wp.cast (L' := [some (vR (some a0)), some (vR (some a982)), some (vR (some a987)), some (vR l3), some (vI l4), none, none, none]) (st' := [vR (some a987), vI x986]) (by rw [e]) (by rw [e]) ?_
                                  refine r_tcI dL_law_678 (fun h hT hG => c_X4_day h hT hG) h q2583 q2584 q2585 q117 q2586 rfl yo_X4_day rfl (by decide) (by decide) rfl (rc1 c1I rc0) (by decide) (fun x989 G988 h => ?_)
                                  refine r_icmp_eq (tgt := 1331) dL_law_681 (by decide) h (fun h => ?_) (fun h => ?_)
                                  · exact w_L_law_1331 hk23 h
                                  · refine r_iconst dL_law_684 ?_
                                    refine wp.cast (st' := [vB false]) rfl (congrArg (fun q => [q]) vI0) ?_
                                    exact r_zret rfl dL_law_685 ⟨_, rfl, h⟩
                                · refine r_swc h (fun e15 h => ?_) (fun e15 h => ?_)
                                  · refine r_tsIn (tgt := 686) dL_law_39 hr e15 (by decide) (by decide) rfl (by decide) ?_
                                    refine r_aload_n dL_law_686 rfl rfl iR ?_
                                    obtain ⟨a990, e, h⟩ := h
                                    refine wp.cast (L' := [some (vR (some a0)), some (vR (some a990)), some (vR l2), some (vR l3), some (vI l4), none, none, none]) (st' := [vR (some a990)]) (by rw [e]) (by rw [e]) ?_
                                    obtain ⟨k992, n993, ⟨hk1, hn1⟩, h⟩ := h
                                    obtain ⟨hC, h⟩ := h
                                    refine r_callV dL_law_687 hC (c_X1_undo h) q1933 q1934 q1935 q92 q1936 rfl yo_X1_undo rfl (by decide) (by decide) rfl rc0 (by decide) hk1 hn1 (ofI fun x994 G991 h => ?_) nox
                                    refine r_aload_n dL_law_690 rfl rfl iR ?_
                                    obtain ⟨a995, e, h⟩ := h
                                    refine wp.cast (L' := [some (vR (some a0)), some (vR (some a990)), some (vR (some a995)), some (vR l3), some (vI l4), none, none, none]) (st' := [vR (some a995), vI x994]) (by rw [e]) (by rw [e]) ?_
                                    refine r_tcI dL_law_691 (fun h hT hG => c_X4_undo h hT hG) h q2391 q2392 q2393 q117 q2394 rfl yo_X4_undo rfl (by decide) (by decide) rfl (rc1 c1I rc0) (by decide) (fun x997 G996 h => ?_)
                                    refine r_icmp_eq (tgt := 1331) dL_law_694 (by decide) h (fun h => ?_) (fun h => ?_)
                                    · exact w_L_law_1331 hk23 h
                                    · refine r_iconst dL_law_697 ?_
                                      refine wp.cast (st' := [vB false]) rfl (congrArg (fun q => [q]) vI0) ?_
                                      exact r_zret rfl dL_law_698 ⟨_, rfl, h⟩
                                  · refine r_swc h (fun e16 h => ?_) (fun e16 h => ?_)
                                    · refine r_tsIn (tgt := 699) dL_law_39 hr e16 (by decide) (by decide) rfl (by decide) ?_
                                      refine r_aload_n dL_law_699 rfl rfl iR ?_
                                      refine r_aload_n dL_law_700 rfl rfl iR ?_
                                      refine r_iload dL_law_701 rfl iI ?_
                                      refine r_iconst dL_law_703 ?_
                                      refine r_iadd dL_law_704 ?_
                                      refine r_ialdC dL_law_705 h (fun x998 h => ?_)
                                      obtain ⟨a999, e, h⟩ := h
                                      refine wp.cast (L' := [some (vR (some a0)), some (vR (some a999)), some (vR l2), some (vR l3), some (vI l4), none, none, none]) (st' := [vI x998, vR (some a999)]) (by rw [e]) (by rw [e]) ?_
                                      obtain ⟨k1001, n1002, ⟨hk1, hn1⟩, h⟩ := h
                                      obtain ⟨hC, h⟩ := h
                                      refine r_callV dL_law_706 hC (c_X1_waiting h) q1937 q1938 q1939 q92 q1940 rfl yo_X1_waiting rfl (by decide) (by decide) rfl rc0 (by decide) hk1 hn1 (ofI fun x1003 G1000 h => ?_) nox
                                      refine r_aload_n dL_law_709 rfl rfl iR ?_
                                      refine r_aload_n dL_law_710 rfl rfl iR ?_
                                      refine r_iload dL_law_711 rfl iI ?_
                                      refine r_iconst dL_law_713 ?_
                                      refine r_iadd dL_law_714 ?_
                                      refine r_ialdC dL_law_715 h (fun x1004 h => ?_)
                                      obtain ⟨a1005, e, h⟩ := h
                                      refine wp.cast (L' := [some (vR (some a0)), some (vR (some a999)), some (vR (some a1005)), some (vR l3), some (vI l4), none, none, none]) (st' := [vI x1004, vR (some a1005), vI x1003]) (by rw [e]) (by rw [e]) ?_
                                      refine r_tcI dL_law_716 (fun h hT hG => c_X4_waiting h hT hG) h q2600 q2601 q2602 q117 q2603 rfl yo_X4_waiting rfl (by decide) (by decide) rfl (rc1 c1I rc0) (by decide) (fun x1007 G1006 h => ?_)
                                      refine r_icmp_eq (tgt := 1331) dL_law_719 (by decide) h (fun h => ?_) (fun h => ?_)
                                      · exact w_L_law_1331 hk23 h
                                      · refine r_iconst dL_law_722 ?_
                                        refine wp.cast (st' := [vB false]) rfl (congrArg (fun q => [q]) vI0) ?_
                                        exact r_zret rfl dL_law_723 ⟨_, rfl, h⟩
                                    · refine r_swc h (fun e17 h => ?_) (fun e17 h => ?_)
                                      · refine r_tsIn (tgt := 724) dL_law_39 hr e17 (by decide) (by decide) rfl (by decide) ?_
                                        refine r_aload_n dL_law_724 rfl rfl iR ?_
                                        obtain ⟨a1008, e, h⟩ := h
                                        refine wp.cast (L' := [some (vR (some a0)), some (vR (some a1008)), some (vR l2), some (vR l3), some (vI l4), none, none, none]) (st' := [vR (some a1008)]) (by rw [e]) (by rw [e]) ?_
                                        obtain ⟨k1010, n1011, ⟨hk1, hn1⟩, h⟩ := h
                                        obtain ⟨hC, h⟩ := h
                                        refine r_callV dL_law_725 hC (c_X1_running h) q1941 q1942 q1943 q92 q1944 rfl yo_X1_running rfl (by decide) (by decide) rfl rc0 (by decide) hk1 hn1 (ofI fun x1012 G1009 h => ?_) nox
                                        refine r_aload_n dL_law_728 rfl rfl iR ?_
                                        obtain ⟨a1013, e, h⟩ := h
                                        refine wp.cast (L' := [some (vR (some a0)), some (vR (some a1008)), some (vR (some a1013)), some (vR l3), some (vI l4), none, none, none]) (st' := [vR (some a1013), vI x1012]) (by rw [e]) (by rw [e]) ?_
                                        refine r_tcI dL_law_729 (fun h hT hG => c_X4_running h hT hG) h q2604 q2605 q2606 q117 q2607 rfl yo_X4_running rfl (by decide) (by decide) rfl (rc1 c1I rc0) (by decide) (fun x1015 G1014 h => ?_)
                                        refine r_icmp_eq (tgt := 1331) dL_law_732 (by decide) h (fun h => ?_) (fun h => ?_)
                                        · exact w_L_law_1331 hk23 h
                                        · refine r_iconst dL_law_735 ?_
                                          refine wp.cast (st' := [vB false]) rfl (congrArg (fun q => [q]) vI0) ?_
                                          exact r_zret rfl dL_law_736 ⟨_, rfl, h⟩
                                      · refine r_swc h (fun e18 h => ?_) (fun e18 h => ?_)
                                        · refine r_tsIn (tgt := 737) dL_law_39 hr e18 (by decide) (by decide) rfl (by decide) ?_
                                          refine r_aload_n dL_law_737 rfl rfl iR ?_
                                          obtain ⟨a1016, e, h⟩ := h
                                          refine wp.cast (L' := [some (vR (some a0)), some (vR (some a1016)), some (vR l2), some (vR l3), some (vI l4), none, none, none]) (st' := [vR (some a1016)]) (by rw [e]) (by rw [e]) ?_
                                          obtain ⟨k1018, n1019, ⟨hk1, hn1⟩, h⟩ := h
                                          obtain ⟨hC, h⟩ := h
                                          refine r_callV dL_law_738 hC (c_X1_outbox h) q1945 q1946 q1947 q92 q1948 rfl yo_X1_outbox rfl (by decide) (by decide) rfl rc0 (by decide) hk1 hn1 (ofI fun x1020 G1017 h => ?_) nox
                                          refine r_aload_n dL_law_741 rfl rfl iR ?_
                                          obtain ⟨a1021, e, h⟩ := h
                                          refine wp.cast (L' := [some (vR (some a0)), some (vR (some a1016)), some (vR (some a1021)), some (vR l3), some (vI l4), none, none, none]) (st' := [vR (some a1021), vI x1020]) (by rw [e]) (by rw [e]) ?_
                                          refine r_tcI dL_law_742 (fun h hT hG => c_X4_outbox h hT hG) h q2608 q2609 q2610 q117 q2611 rfl yo_X4_outbox rfl (by decide) (by decide) rfl (rc1 c1I rc0) (by decide) (fun x1023 G1022 h => ?_)
                                          refine r_icmp_eq (tgt := 1331) dL_law_745 (by decide) h (fun h => ?_) (fun h => ?_)
                                          · exact w_L_law_1331 hk23 h
                                          · refine r_iconst dL_law_748 ?_
                                            refine wp.cast (st' := [vB false]) rfl (congrArg (fun q => [q]) vI0) ?_
                                            exact r_zret rfl dL_law_749 ⟨_, rfl, h⟩
                                        · refine r_swc h (fun e19 h => ?_) (fun e19 h => ?_)
                                          · refine r_tsIn (tgt := 750) dL_law_39 hr e19 (by decide) (by decide) rfl (by decide) ?_
                                            refine r_aload_n dL_law_750 rfl rfl iR ?_
                                            refine r_aload_n dL_law_751 rfl rfl iR ?_
                                            refine r_iload dL_law_752 rfl iI ?_
                                            refine r_iconst dL_law_754 ?_
                                            refine r_iadd dL_law_755 ?_
                                            refine r_ialdC dL_law_756 h (fun x1024 h => ?_)
                                            obtain ⟨a1025, e, h⟩ := h
                                            refine wp.cast (L' := [some (vR (some a0)), some (vR (some a1025)), some (vR l2), some (vR l3), some (vI l4), none, none, none]) (st' := [vI x1024, vR (some a1025)]) (by rw [e]) (by rw [e]) ?_
                                            obtain ⟨hC, h⟩ := h
                                            refine r_callV dL_law_757 hC (c_X1_phases h) q1949 q1950 q1951 q92 q1952 rfl yo_X1_phases rfl (by decide) (by decide) rfl rc0 (by decide) (Nat.zero_le _) (Nat.zero_le _) (ofI fun x1027 G1026 h => ?_) nox
                                            refine r_aload_n dL_law_760 rfl rfl iR ?_
                                            refine r_aload_n dL_law_761 rfl rfl iR ?_
                                            refine r_iload dL_law_762 rfl iI ?_
                                            refine r_iconst dL_law_764 ?_
                                            refine r_iadd dL_law_765 ?_
                                            refine r_ialdC dL_law_766 h (fun x1028 h => ?_)
                                            obtain ⟨a1029, e, h⟩ := h
                                            refine wp.cast (L' := [some (vR (some a0)), some (vR (some a1025)), some (vR (some a1029)), some (vR l3), some (vI l4), none, none, none]) (st' := [vI x1028, vR (some a1029), vI x1027]) (by rw [e]) (by rw [e]) ?_
                                            refine r_tcI dL_law_767 (fun h hT hG => c_X4_phases h hT hG) h q2612 q2613 q2614 q117 q2615 rfl yo_X4_phases rfl (by decide) (by decide) rfl (rc1 c1I rc0) (by decide) (fun x1031 G1030 h => ?_)
                                            refine r_icmp_eq (tgt := 1331) dL_law_770 (by decide) h (fun h => ?_) (fun h => ?_)
                                            · exact w_L_law_1331 hk23 h
                                            · refine r_iconst dL_law_773 ?_
                                              refine wp.cast (st' := [vB false]) rfl (congrArg (fun q => [q]) vI0) ?_
                                              exact r_zret rfl dL_law_774 ⟨_, rfl, h⟩
                                          · refine r_swc h (fun e20 h => ?_) (fun e20 h => ?_)
                                            · refine r_tsIn (tgt := 775) dL_law_39 hr e20 (by decide) (by decide) rfl (by decide) ?_
                                              refine r_aload_n dL_law_775 rfl rfl iR ?_
                                              refine r_aload_n dL_law_776 rfl rfl iR ?_
                                              refine r_iload dL_law_777 rfl iI ?_
                                              refine r_iconst dL_law_779 ?_
                                              refine r_iadd dL_law_780 ?_
                                              refine r_ialdC dL_law_781 h (fun x1032 h => ?_)
                                              obtain ⟨a1033, e, h⟩ := h
                                              refine wp.cast (L' := [some (vR (some a0)), some (vR (some a1033)), some (vR l2), some (vR l3), some (vI l4), none, none, none]) (st' := [vI x1032, vR (some a1033)]) (by rw [e]) (by rw [e]) ?_
                                              obtain ⟨hC, h⟩ := h
                                              refine r_callV dL_law_782 hC (c_X1_room h) q1954 q1955 q1956 q92 q1957 rfl yo_X1_room rfl (by decide) (by decide) rfl rc0 (by decide) (Nat.zero_le _) (Nat.zero_le _) (ofI fun x1035 G1034 h => ?_) nox
                                              refine r_aload_n dL_law_785 rfl rfl iR ?_
                                              refine r_aload_n dL_law_786 rfl rfl iR ?_
                                              refine r_iload dL_law_787 rfl iI ?_
                                              refine r_iconst dL_law_789 ?_
                                              refine r_iadd dL_law_790 ?_
                                              refine r_ialdC dL_law_791 h (fun x1036 h => ?_)
                                              obtain ⟨a1037, e, h⟩ := h
                                              refine wp.cast (L' := [some (vR (some a0)), some (vR (some a1033)), some (vR (some a1037)), some (vR l3), some (vI l4), none, none, none]) (st' := [vI x1036, vR (some a1037), vI x1035]) (by rw [e]) (by rw [e]) ?_
                                              refine r_tcI dL_law_792 (fun h hT hG => c_X4_room h hT hG) h q2620 q2621 q2622 q117 q2623 rfl yo_X4_room rfl (by decide) (by decide) rfl (rc1 c1I rc0) (by decide) (fun x1039 G1038 h => ?_)
                                              refine r_icmp_eq (tgt := 1331) dL_law_795 (by decide) h (fun h => ?_) (fun h => ?_)
                                              · exact w_L_law_1331 hk23 h
                                              · refine r_iconst dL_law_798 ?_
                                                refine wp.cast (st' := [vB false]) rfl (congrArg (fun q => [q]) vI0) ?_
                                                exact r_zret rfl dL_law_799 ⟨_, rfl, h⟩
                                            · refine r_swc h (fun e21 h => ?_) (fun e21 h => ?_)
                                              · refine r_tsIn (tgt := 800) dL_law_39 hr e21 (by decide) (by decide) rfl (by decide) ?_
                                                refine r_aload_n dL_law_800 rfl rfl iR ?_
                                                refine r_aload_n dL_law_801 rfl rfl iR ?_
                                                refine r_iload dL_law_802 rfl iI ?_
                                                refine r_iconst dL_law_804 ?_
                                                refine r_iadd dL_law_805 ?_
                                                refine r_ialdC dL_law_806 h (fun x1040 h => ?_)
                                                obtain ⟨a1041, e, h⟩ := h
                                                refine wp.cast (L' := [some (vR (some a0)), some (vR (some a1041)), some (vR l2), some (vR l3), some (vI l4), none, none, none]) (st' := [vI x1040, vR (some a1041)]) (by rw [e]) (by rw [e]) ?_
                                                obtain ⟨k1043, n1044, ⟨hk1, hn1⟩, h⟩ := h
                                                obtain ⟨hC, h⟩ := h
                                                refine r_callV dL_law_807 hC (c_X1_block h) q1958 q1959 q1960 q92 q1961 rfl yo_X1_block rfl (by decide) (by decide) rfl rc0 (by decide) hk1 hn1 (ofI fun x1045 G1042 h => ?_) nox
                                                refine r_aload_n dL_law_810 rfl rfl iR ?_
                                                refine r_aload_n dL_law_811 rfl rfl iR ?_
                                                refine r_iload dL_law_812 rfl iI ?_
                                                refine r_iconst dL_law_814 ?_
                                                refine r_iadd dL_law_815 ?_
                                                refine r_ialdC dL_law_816 h (fun x1046 h => ?_)
                                                obtain ⟨a1047, e, h⟩ := h
                                                refine wp.cast (L' := [some (vR (some a0)), some (vR (some a1041)), some (vR (some a1047)), some (vR l3), some (vI l4), none, none, none]) (st' := [vI x1046, vR (some a1047), vI x1045]) (by rw [e]) (by rw [e]) ?_
                                                refine r_tcI dL_law_817 (fun h hT hG => c_X4_block h hT hG) h q2624 q2625 q2626 q117 q2627 rfl yo_X4_block rfl (by decide) (by decide) rfl (rc1 c1I rc0) (by decide) (fun x1049 G1048 h => ?_)
                                                refine r_icmp_eq (tgt := 1331) dL_law_820 (by decide) h (fun h => ?_) (fun h => ?_)
                                                · exact w_L_law_1331 hk23 h
                                                · refine r_iconst dL_law_823 ?_
                                                  refine wp.cast (st' := [vB false]) rfl (congrArg (fun q => [q]) vI0) ?_
                                                  exact r_zret rfl dL_law_824 ⟨_, rfl, h⟩
                                              · refine r_swc h (fun e22 h => ?_) (fun e22 h => ?_)
                                                · refine r_tsIn (tgt := 825) dL_law_39 hr e22 (by decide) (by decide) rfl (by decide) ?_
                                                  refine r_aload_n dL_law_825 rfl rfl iR ?_
                                                  obtain ⟨a1050, e, h⟩ := h
                                                  refine wp.cast (L' := [some (vR (some a0)), some (vR (some a1050)), some (vR l2), some (vR l3), some (vI l4), none, none, none]) (st' := [vR (some a1050)]) (by rw [e]) (by rw [e]) ?_
                                                  obtain ⟨k1052, n1053, ⟨hk1, hn1⟩, h⟩ := h
                                                  obtain ⟨hC, h⟩ := h
                                                  refine r_callV dL_law_826 hC (c_X1_next h) q1966 q1967 q1968 q92 q1969 rfl yo_X1_next rfl (by decide) (by decide) rfl rc0 (by decide) hk1 hn1 (ofI fun x1054 G1051 h => ?_) nox
                                                  refine r_aload_n dL_law_829 rfl rfl iR ?_
                                                  obtain ⟨a1055, e, h⟩ := h
                                                  refine wp.cast (L' := [some (vR (some a0)), some (vR (some a1050)), some (vR (some a1055)), some (vR l3), some (vI l4), none, none, none]) (st' := [vR (some a1055), vI x1054]) (by rw [e]) (by rw [e]) ?_
                                                  refine r_tcI dL_law_830 (fun h hT hG => c_X4_next h hT hG) h q2631 q2632 q2633 q117 q2634 rfl yo_X4_next rfl (by decide) (by decide) rfl (rc1 c1I rc0) (by decide) (fun x1057 G1056 h => ?_)
                                                  refine r_icmp_eq (tgt := 1331) dL_law_833 (by decide) h (fun h => ?_) (fun h => ?_)
                                                  · exact w_L_law_1331 hk23 h
                                                  · refine r_iconst dL_law_836 ?_
                                                    refine wp.cast (st' := [vB false]) rfl (congrArg (fun q => [q]) vI0) ?_
                                                    exact r_zret rfl dL_law_837 ⟨_, rfl, h⟩
                                                · refine r_swc h (fun e23 h => ?_) (fun e23 h => ?_)
                                                  · refine r_tsIn (tgt := 838) dL_law_39 hr e23 (by decide) (by decide) rfl (by decide) ?_
                                                    refine r_aload_n dL_law_838 rfl rfl iR ?_
                                                    refine r_aload_n dL_law_839 rfl rfl iR ?_
                                                    refine r_iload dL_law_840 rfl iI ?_
                                                    refine r_iconst dL_law_842 ?_
                                                    refine r_iadd dL_law_843 ?_
                                                    refine r_ialdC dL_law_844 h (fun x1058 h => ?_)
                                                    obtain ⟨a1059, e, h⟩ := h
                                                    refine wp.cast (L' := [some (vR (some a0)), some (vR (some a1059)), some (vR l2), some (vR l3), some (vI l4), none, none, none]) (st' := [vI x1058, vR (some a1059)]) (by rw [e]) (by rw [e]) ?_
                                                    obtain ⟨k1061, n1062, ⟨hk1, hn1⟩, h⟩ := h
                                                    obtain ⟨hC, h⟩ := h
                                                    refine r_callV dL_law_845 hC (c_X1_deals h) q1972 q1973 q1974 q92 q1975 rfl yo_X1_deals rfl (by decide) (by decide) rfl rc0 (by decide) hk1 hn1 (ofI fun x1063 G1060 h => ?_) nox
                                                    refine r_aload_n dL_law_848 rfl rfl iR ?_
                                                    refine r_aload_n dL_law_849 rfl rfl iR ?_
                                                    refine r_iload dL_law_850 rfl iI ?_
                                                    refine r_iconst dL_law_852 ?_
                                                    refine r_iadd dL_law_853 ?_
                                                    refine r_ialdC dL_law_854 h (fun x1064 h => ?_)
                                                    obtain ⟨a1065, e, h⟩ := h
                                                    refine wp.cast (L' := [some (vR (some a0)), some (vR (some a1059)), some (vR (some a1065)), some (vR l3), some (vI l4), none, none, none]) (st' := [vI x1064, vR (some a1065), vI x1063]) (by rw [e]) (by rw [e]) ?_
                                                    refine r_tcI dL_law_855 (fun h hT hG => c_X4_deals h hT hG) h q2639 q2640 q2641 q117 q2642 rfl yo_X4_deals rfl (by decide) (by decide) rfl (rc1 c1I rc0) (by decide) (fun x1067 G1066 h => ?_)
                                                    refine r_icmp_eq (tgt := 1331) dL_law_858 (by decide) h (fun h => ?_) (fun h => ?_)
                                                    · exact w_L_law_1331 hk23 h
                                                    · refine r_iconst dL_law_861 ?_
                                                      refine wp.cast (st' := [vB false]) rfl (congrArg (fun q => [q]) vI0) ?_
                                                      exact r_zret rfl dL_law_862 ⟨_, rfl, h⟩
                                                  · refine r_swc h (fun e24 h => ?_) (fun e24 h => ?_)
                                                    · refine r_tsIn (tgt := 863) dL_law_39 hr e24 (by decide) (by decide) rfl (by decide) ?_
                                                      refine r_aload_n dL_law_863 rfl rfl iR ?_
                                                      refine r_aload_n dL_law_864 rfl rfl iR ?_
                                                      refine r_iload dL_law_865 rfl iI ?_
                                                      refine r_iconst dL_law_867 ?_
                                                      refine r_iadd dL_law_868 ?_
                                                      refine r_ialdC dL_law_869 h (fun x1068 h => ?_)
                                                      refine r_aload_n dL_law_870 rfl rfl iR ?_
                                                      refine r_iload dL_law_871 rfl iI ?_
                                                      refine r_iconst dL_law_873 ?_
                                                      refine r_iadd dL_law_874 ?_
                                                      refine r_ialdC dL_law_875 h (fun x1069 h => ?_)
                                                      obtain ⟨a1070, e, h⟩ := h
                                                      refine wp.cast (L' := [some (vR (some a0)), some (vR (some a1070)), some (vR l2), some (vR l3), some (vI l4), none, none, none]) (st' := [vI x1069, vI x1068, vR (some a1070)]) (by rw [e]) (by rw [e]) ?_
                                                      obtain ⟨k1072, n1073, ⟨hk1, hn1⟩, h⟩ := h
                                                      obtain ⟨hC, h⟩ := h
                                                      refine r_callV dL_law_876 hC (c_X1_when h) q1976 q1977 q1978 q92 q1979 rfl yo_X1_when rfl (by decide) (by decide) rfl rc0 (by decide) hk1 hn1 (ofI fun x1074 G1071 h => ?_) nox
                                                      refine r_aload_n dL_law_879 rfl rfl iR ?_
                                                      refine r_aload_n dL_law_880 rfl rfl iR ?_
                                                      refine r_iload dL_law_881 rfl iI ?_
                                                      refine r_iconst dL_law_883 ?_
                                                      refine r_iadd dL_law_884 ?_
                                                      refine r_ialdC dL_law_885 h (fun x1075 h => ?_)
                                                      refine r_aload_n dL_law_886 rfl rfl iR ?_
                                                      refine r_iload dL_law_887 rfl iI ?_
                                                      refine r_iconst dL_law_889 ?_
                                                      refine r_iadd dL_law_890 ?_
                                                      refine r_ialdC dL_law_891 h (fun x1076 h => ?_)
                                                      obtain ⟨a1077, e, h⟩ := h
                                                      refine wp.cast (L' := [some (vR (some a0)), some (vR (some a1070)), some (vR (some a1077)), some (vR l3), some (vI l4), none, none, none]) (st' := [vI x1076, vI x1075, vR (some a1077), vI x1074]) (by rw [e]) (by rw [e]) ?_
                                                      refine r_tcI dL_law_892 (fun h hT hG => c_X4_when h hT hG) h q2643 q2644 q2645 q117 q2646 rfl yo_X4_when rfl (by decide) (by decide) rfl (rc1 c1I rc0) (by decide) (fun x1079 G1078 h => ?_)
                                                      refine r_icmp_eq (tgt := 1331) dL_law_895 (by decide) h (fun h => ?_) (fun h => ?_)
                                                      · exact w_L_law_1331 hk23 h
                                                      · refine r_iconst dL_law_898 ?_
                                                        refine wp.cast (st' := [vB false]) rfl (congrArg (fun q => [q]) vI0) ?_
                                                        exact r_zret rfl dL_law_899 ⟨_, rfl, h⟩
                                                    · refine r_swc h (fun e25 h => ?_) (fun e25 h => ?_)
                                                      · refine r_tsIn (tgt := 900) dL_law_39 hr e25 (by decide) (by decide) rfl (by decide) ?_
                                                        refine r_aload_n dL_law_900 rfl rfl iR ?_
                                                        obtain ⟨a1080, e, h⟩ := h
                                                        refine wp.cast (L' := [some (vR (some a0)), some (vR (some a1080)), some (vR l2), some (vR l3), some (vI l4), none, none, none]) (st' := [vR (some a1080)]) (by rw [e]) (by rw [e]) ?_
                                                        obtain ⟨k1082, n1083, ⟨hk1, hn1⟩, h⟩ := h
                                                        obtain ⟨hC, h⟩ := h
                                                        refine r_callV dL_law_901 hC (c_X1_drains h) q1988 q1989 q1990 q92 q1991 rfl yo_X1_drains rfl (by decide) (by decide) rfl rc0 (by decide) hk1 hn1 (ofI fun x1084 G1081 h => ?_) nox
                                                        refine r_aload_n dL_law_904 rfl rfl iR ?_
                                                        obtain ⟨a1085, e, h⟩ := h
                                                        refine wp.cast (L' := [some (vR (some a0)), some (vR (some a1080)), some (vR (some a1085)), some (vR l3), some (vI l4), none, none, none]) (st' := [vR (some a1085), vI x1084]) (by rw [e]) (by rw [e]) ?_
                                                        refine r_tcI dL_law_905 (fun h hT hG => c_X4_drains h hT hG) h q2647 q2648 q2649 q117 q2650 rfl yo_X4_drains rfl (by decide) (by decide) rfl (rc1 c1I rc0) (by decide) (fun x1087 G1086 h => ?_)
                                                        refine r_icmp_eq (tgt := 1331) dL_law_908 (by decide) h (fun h => ?_) (fun h => ?_)
                                                        · exact w_L_law_1331 hk23 h
                                                        · refine r_iconst dL_law_911 ?_
                                                          refine wp.cast (st' := [vB false]) rfl (congrArg (fun q => [q]) vI0) ?_
                                                          exact r_zret rfl dL_law_912 ⟨_, rfl, h⟩
                                                      · refine r_swc h (fun e26 h => ?_) (fun e26 h => ?_)
                                                        · refine r_tsIn (tgt := 913) dL_law_39 hr e26 (by decide) (by decide) rfl (by decide) ?_
                                                          refine r_aload_n dL_law_913 rfl rfl iR ?_
                                                          refine r_aload_n dL_law_914 rfl rfl iR ?_
                                                          refine r_iload dL_law_915 rfl iI ?_
                                                          refine r_iconst dL_law_917 ?_
                                                          refine r_iadd dL_law_918 ?_
                                                          refine r_ialdC dL_law_919 h (fun x1088 h => ?_)
                                                          obtain ⟨a1089, e, h⟩ := h
                                                          refine wp.cast (L' := [some (vR (some a0)), some (vR (some a1089)), some (vR l2), some (vR l3), some (vI l4), none, none, none]) (st' := [vI x1088, vR (some a1089)]) (by rw [e]) (by rw [e]) ?_
                                                          obtain ⟨k1091, n1092, ⟨hk1, hn1⟩, h⟩ := h
                                                          obtain ⟨hC, h⟩ := h
                                                          refine r_callV dL_law_920 hC (c_X1_would h) q2006 q2007 q2008 q92 q2009 rfl yo_X1_would rfl (by decide) (by decide) rfl rc0 (by decide) hk1 hn1 (ofI fun x1093 G1090 h => ?_) nox
                                                          refine r_aload_n dL_law_923 rfl rfl iR ?_
                                                          refine r_aload_n dL_law_924 rfl rfl iR ?_
                                                          refine r_iload dL_law_925 rfl iI ?_
                                                          refine r_iconst dL_law_927 ?_
                                                          refine r_iadd dL_law_928 ?_
                                                          refine r_ialdC dL_law_929 h (fun x1094 h => ?_)
                                                          obtain ⟨a1095, e, h⟩ := h
                                                          refine wp.cast (L' := [some (vR (some a0)), some (vR (some a1089)), some (vR (some a1095)), some (vR l3), some (vI l4), none, none, none]) (st' := [vI x1094, vR (some a1095), vI x1093]) (by rw [e]) (by rw [e]) ?_
                                                          refine r_tcI dL_law_930 (fun h hT hG => c_X4_would h hT hG) h q2663 q2664 q2665 q117 q2666 rfl yo_X4_would rfl (by decide) (by decide) rfl (rc1 c1I rc0) (by decide) (fun x1097 G1096 h => ?_)
                                                          refine r_icmp_eq (tgt := 1331) dL_law_933 (by decide) h (fun h => ?_) (fun h => ?_)
                                                          · exact w_L_law_1331 hk23 h
                                                          · refine r_iconst dL_law_936 ?_
                                                            refine wp.cast (st' := [vB false]) rfl (congrArg (fun q => [q]) vI0) ?_
                                                            exact r_zret rfl dL_law_937 ⟨_, rfl, h⟩
                                                        · refine r_swc h (fun e27 h => ?_) (fun e27 h => ?_)
                                                          · refine r_tsIn (tgt := 938) dL_law_39 hr e27 (by decide) (by decide) rfl (by decide) ?_
                                                            refine r_aload_n dL_law_938 rfl rfl iR ?_
                                                            refine r_aload_n dL_law_939 rfl rfl iR ?_
                                                            refine r_iload dL_law_940 rfl iI ?_
                                                            refine r_iconst dL_law_942 ?_
                                                            refine r_iadd dL_law_943 ?_
                                                            refine r_ialdC dL_law_944 h (fun x1098 h => ?_)
                                                            obtain ⟨a1099, e, h⟩ := h
                                                            refine wp.cast (L' := [some (vR (some a0)), some (vR (some a1099)), some (vR l2), some (vR l3), some (vI l4), none, none, none]) (st' := [vI x1098, vR (some a1099)]) (by rw [e]) (by rw [e]) ?_
                                                            obtain ⟨hC, h⟩ := h
                                                            refine r_callV dL_law_945 hC (c_X1_needs h) q2010 q2011 q2012 q92 q2013 rfl yo_X1_needs rfl (by decide) (by decide) rfl rc0 (by decide) (Nat.zero_le _) (Nat.zero_le _) (ofI fun x1101 G1100 h => ?_) nox
                                                            refine r_aload_n dL_law_948 rfl rfl iR ?_
                                                            refine r_aload_n dL_law_949 rfl rfl iR ?_
                                                            refine r_iload dL_law_950 rfl iI ?_
                                                            refine r_iconst dL_law_952 ?_
                                                            refine r_iadd dL_law_953 ?_
                                                            refine r_ialdC dL_law_954 h (fun x1102 h => ?_)
                                                            obtain ⟨a1103, e, h⟩ := h
                                                            refine wp.cast (L' := [some (vR (some a0)), some (vR (some a1099)), some (vR (some a1103)), some (vR l3), some (vI l4), none, none, none]) (st' := [vI x1102, vR (some a1103), vI x1101]) (by rw [e]) (by rw [e]) ?_
                                                            refine r_tcI dL_law_955 (fun h hT hG => c_X4_needs h hT hG) h q2667 q2668 q2669 q117 q2670 rfl yo_X4_needs rfl (by decide) (by decide) rfl (rc1 c1I rc0) (by decide) (fun x1105 G1104 h => ?_)
                                                            refine r_icmp_eq (tgt := 1331) dL_law_958 (by decide) h (fun h => ?_) (fun h => ?_)
                                                            · exact w_L_law_1331 hk23 h
                                                            · refine r_iconst dL_law_961 ?_
                                                              refine wp.cast (st' := [vB false]) rfl (congrArg (fun q => [q]) vI0) ?_
                                                              exact r_zret rfl dL_law_962 ⟨_, rfl, h⟩
                                                          · refine r_swc h (fun e28 h => ?_) (fun e28 h => ?_)
                                                            · refine r_tsIn (tgt := 963) dL_law_39 hr e28 (by decide) (by decide) rfl (by decide) ?_
                                                              refine r_aload_n dL_law_963 rfl rfl iR ?_
                                                              obtain ⟨a1106, e, h⟩ := h
                                                              refine wp.cast (L' := [some (vR (some a0)), some (vR (some a1106)), some (vR l2), some (vR l3), some (vI l4), none, none, none]) (st' := [vR (some a1106)]) (by rw [e]) (by rw [e]) ?_
                                                              obtain ⟨hC, h⟩ := h
                                                              refine r_callV dL_law_964 hC (c_X1_bells h) q2014 q2015 q2016 q92 q2017 rfl yo_X1_bells rfl (by decide) (by decide) rfl rc0 (by decide) (Nat.zero_le _) (Nat.zero_le _) (ofI fun x1108 G1107 h => ?_) nox
                                                              refine r_aload_n dL_law_967 rfl rfl iR ?_
                                                              obtain ⟨a1109, e, h⟩ := h
                                                              refine wp.cast (L' := [some (vR (some a0)), some (vR (some a1106)), some (vR (some a1109)), some (vR l3), some (vI l4), none, none, none]) (st' := [vR (some a1109), vI x1108]) (by rw [e]) (by rw [e]) ?_
                                                              refine r_tcI dL_law_968 (fun h hT hG => c_X4_bells h hT hG) h q2671 q2672 q2673 q117 q2674 rfl yo_X4_bells rfl (by decide) (by decide) rfl (rc1 c1I rc0) (by decide) (fun x1111 G1110 h => ?_)
                                                              refine r_icmp_eq (tgt := 1331) dL_law_971 (by decide) h (fun h => ?_) (fun h => ?_)
                                                              · exact w_L_law_1331 hk23 h
                                                              · refine r_iconst dL_law_974 ?_
                                                                refine wp.cast (st' := [vB false]) rfl (congrArg (fun q => [q]) vI0) ?_
                                                                exact r_zret rfl dL_law_975 ⟨_, rfl, h⟩
                                                            · refine r_swc h (fun e29 h => ?_) (fun e29 h => ?_)
                                                              · refine r_tsIn (tgt := 976) dL_law_39 hr e29 (by decide) (by decide) rfl (by decide) ?_
                                                                refine r_aload_n dL_law_976 rfl rfl iR ?_
                                                                refine r_aload_n dL_law_977 rfl rfl iR ?_
                                                                refine r_iload dL_law_978 rfl iI ?_
                                                                refine r_iconst dL_law_980 ?_
                                                                refine r_iadd dL_law_981 ?_
                                                                refine r_ialdC dL_law_982 h (fun x1112 h => ?_)
                                                                refine r_aload_n dL_law_983 rfl rfl iR ?_
                                                                refine r_iload dL_law_984 rfl iI ?_
                                                                refine r_iconst dL_law_986 ?_
                                                                refine r_iadd dL_law_987 ?_
                                                                refine r_ialdC dL_law_988 h (fun x1113 h => ?_)
                                                                obtain ⟨a1114, e, h⟩ := h
                                                                refine wp.cast (L' := [some (vR (some a0)), some (vR (some a1114)), some (vR l2), some (vR l3), some (vI l4), none, none, none]) (st' := [vI x1113, vI x1112, vR (some a1114)]) (by rw [e]) (by rw [e]) ?_
                                                                obtain ⟨k1116, n1117, ⟨hk1, hn1⟩, h⟩ := h
                                                                obtain ⟨hC, h⟩ := h
                                                                refine r_callV dL_law_989 hC (c_X1_recall h) q2018 q2019 q2020 q92 q2021 rfl yo_X1_recall rfl (by decide) (by decide) rfl rc0 (by decide) hk1 hn1 (ofI fun x1118 G1115 h => ?_) nox
                                                                refine r_aload_n dL_law_992 rfl rfl iR ?_
                                                                refine r_aload_n dL_law_993 rfl rfl iR ?_
                                                                refine r_iload dL_law_994 rfl iI ?_
                                                                refine r_iconst dL_law_996 ?_
                                                                refine r_iadd dL_law_997 ?_
                                                                refine r_ialdC dL_law_998 h (fun x1119 h => ?_)
                                                                refine r_aload_n dL_law_999 rfl rfl iR ?_
                                                                refine r_iload dL_law_1000 rfl iI ?_
                                                                refine r_iconst dL_law_1002 ?_
                                                                refine r_iadd dL_law_1003 ?_
                                                                refine r_ialdC dL_law_1004 h (fun x1120 h => ?_)
                                                                obtain ⟨a1121, e, h⟩ := h
                                                                refine wp.cast (L' := [some (vR (some a0)), some (vR (some a1114)), some (vR (some a1121)), some (vR l3), some (vI l4), none, none, none]) (st' := [vI x1120, vI x1119, vR (some a1121), vI x1118]) (by rw [e]) (by rw [e]) ?_
                                                                refine r_tcI dL_law_1005 (fun h hT hG => c_X4_recall h hT hG) h q2675 q2676 q2677 q117 q2678 rfl yo_X4_recall rfl (by decide) (by decide) rfl (rc1 c1I rc0) (by decide) (fun x1123 G1122 h => ?_)
                                                                refine r_icmp_eq (tgt := 1331) dL_law_1008 (by decide) h (fun h => ?_) (fun h => ?_)
                                                                · exact w_L_law_1331 hk23 h
                                                                · refine r_iconst dL_law_1011 ?_
                                                                  refine wp.cast (st' := [vB false]) rfl (congrArg (fun q => [q]) vI0) ?_
                                                                  exact r_zret rfl dL_law_1012 ⟨_, rfl, h⟩
                                                              · refine r_swc h (fun e30 h => ?_) (fun e30 h => ?_)
                                                                · refine r_tsIn (tgt := 1013) dL_law_39 hr e30 (by decide) (by decide) rfl (by decide) ?_
                                                                  refine r_aload_n dL_law_1013 rfl rfl iR ?_
                                                                  obtain ⟨a1124, e, h⟩ := h
                                                                  refine wp.cast (L' := [some (vR (some a0)), some (vR (some a1124)), some (vR l2), some (vR l3), some (vI l4), none, none, none]) (st' := [vR (some a1124)]) (by rw [e]) (by rw [e]) ?_
                                                                  obtain ⟨hC, h⟩ := h
                                                                  refine r_callV dL_law_1014 hC (c_X1_served h) q2022 q2023 q2024 q92 q2025 rfl yo_X1_served rfl (by decide) (by decide) rfl rc0 (by decide) (Nat.zero_le _) (Nat.zero_le _) (ofI fun x1126 G1125 h => ?_) nox
                                                                  refine r_aload_n dL_law_1017 rfl rfl iR ?_
                                                                  obtain ⟨a1127, e, h⟩ := h
                                                                  refine wp.cast (L' := [some (vR (some a0)), some (vR (some a1124)), some (vR (some a1127)), some (vR l3), some (vI l4), none, none, none]) (st' := [vR (some a1127), vI x1126]) (by rw [e]) (by rw [e]) ?_
                                                                  refine r_tcI dL_law_1018 (fun h hT hG => c_X4_served h hT hG) h q2679 q2680 q2681 q117 q2682 rfl yo_X4_served rfl (by decide) (by decide) rfl (rc1 c1I rc0) (by decide) (fun x1129 G1128 h => ?_)
                                                                  refine r_icmp_eq (tgt := 1331) dL_law_1021 (by decide) h (fun h => ?_) (fun h => ?_)
                                                                  · exact w_L_law_1331 hk23 h
                                                                  · refine r_iconst dL_law_1024 ?_
                                                                    refine wp.cast (st' := [vB false]) rfl (congrArg (fun q => [q]) vI0) ?_
                                                                    exact r_zret rfl dL_law_1025 ⟨_, rfl, h⟩
                                                                · refine r_swc h (fun e31 h => ?_) (fun e31 h => ?_)
                                                                  · refine r_tsIn (tgt := 1026) dL_law_39 hr e31 (by decide) (by decide) rfl (by decide) ?_
                                                                    refine r_aload_n dL_law_1026 rfl rfl iR ?_
                                                                    refine r_aload_n dL_law_1027 rfl rfl iR ?_
                                                                    refine r_iload dL_law_1028 rfl iI ?_
                                                                    refine r_iconst dL_law_1030 ?_
                                                                    refine r_iadd dL_law_1031 ?_
                                                                    refine r_ialdC dL_law_1032 h (fun x1130 h => ?_)
                                                                    refine r_aload_n dL_law_1033 rfl rfl iR ?_
                                                                    refine r_iload dL_law_1034 rfl iI ?_
                                                                    refine r_iconst dL_law_1036 ?_
                                                                    refine r_iadd dL_law_1037 ?_
                                                                    refine r_ialdC dL_law_1038 h (fun x1131 h => ?_)
                                                                    obtain ⟨a1132, e, h⟩ := h
                                                                    refine wp.cast (L' := [some (vR (some a0)), some (vR (some a1132)), some (vR l2), some (vR l3), some (vI l4), none, none, none]) (st' := [vI x1131, vI x1130, vR (some a1132)]) (by rw [e]) (by rw [e]) ?_
                                                                    obtain ⟨hC, h⟩ := h
                                                                    refine r_callV dL_law_1039 hC (c_X1_heard h) q2026 q2027 q2028 q92 q2029 rfl yo_X1_heard rfl (by decide) (by decide) rfl rc0 (by decide) (Nat.zero_le _) (Nat.zero_le _) (ofI fun x1134 G1133 h => ?_) nox
                                                                    refine r_aload_n dL_law_1042 rfl rfl iR ?_
                                                                    refine r_aload_n dL_law_1043 rfl rfl iR ?_
                                                                    refine r_iload dL_law_1044 rfl iI ?_
                                                                    refine r_iconst dL_law_1046 ?_
                                                                    refine r_iadd dL_law_1047 ?_
                                                                    refine r_ialdC dL_law_1048 h (fun x1135 h => ?_)
                                                                    refine r_aload_n dL_law_1049 rfl rfl iR ?_
                                                                    refine r_iload dL_law_1050 rfl iI ?_
                                                                    refine r_iconst dL_law_1052 ?_
                                                                    refine r_iadd dL_law_1053 ?_
                                                                    refine r_ialdC dL_law_1054 h (fun x1136 h => ?_)
                                                                    obtain ⟨a1137, e, h⟩ := h
                                                                    refine wp.cast (L' := [some (vR (some a0)), some (vR (some a1132)), some (vR (some a1137)), some (vR l3), some (vI l4), none, none, none]) (st' := [vI x1136, vI x1135, vR (some a1137), vI x1134]) (by rw [e]) (by rw [e]) ?_
                                                                    refine r_tcI dL_law_1055 (fun h hT hG => c_X4_heard h hT hG) h q2683 q2684 q2685 q117 q2686 rfl yo_X4_heard rfl (by decide) (by decide) rfl (rc1 c1I rc0) (by decide) (fun x1139 G1138 h => ?_)
                                                                    refine r_icmp_eq (tgt := 1331) dL_law_1058 (by decide) h (fun h => ?_) (fun h => ?_)
                                                                    · exact w_L_law_1331 hk23 h
                                                                    · refine r_iconst dL_law_1061 ?_
                                                                      refine wp.cast (st' := [vB false]) rfl (congrArg (fun q => [q]) vI0) ?_
                                                                      exact r_zret rfl dL_law_1062 ⟨_, rfl, h⟩
                                                                  · refine r_swc h (fun e32 h => ?_) (fun e32 h => ?_)
                                                                    · refine r_tsIn (tgt := 1063) dL_law_39 hr e32 (by decide) (by decide) rfl (by decide) ?_
                                                                      refine r_aload_n dL_law_1063 rfl rfl iR ?_
                                                                      obtain ⟨a1140, e, h⟩ := h
                                                                      refine wp.cast (L' := [some (vR (some a0)), some (vR (some a1140)), some (vR l2), some (vR l3), some (vI l4), none, none, none]) (st' := [vR (some a1140)]) (by rw [e]) (by rw [e]) ?_
                                                                      obtain ⟨hC, h⟩ := h
                                                                      refine r_callV dL_law_1064 hC (c_X1_denies h) q2033 q2034 q2035 q92 q2036 rfl yo_X1_denies rfl (by decide) (by decide) rfl rc0 (by decide) (Nat.zero_le _) (Nat.zero_le _) (ofI fun x1142 G1141 h => ?_) nox
                                                                      refine r_aload_n dL_law_1067 rfl rfl iR ?_
                                                                      obtain ⟨a1143, e, h⟩ := h
                                                                      refine wp.cast (L' := [some (vR (some a0)), some (vR (some a1140)), some (vR (some a1143)), some (vR l3), some (vI l4), none, none, none]) (st' := [vR (some a1143), vI x1142]) (by rw [e]) (by rw [e]) ?_
                                                                      refine r_tcI dL_law_1068 (fun h hT hG => c_X4_denies h hT hG) h q2690 q2691 q2692 q117 q2693 rfl yo_X4_denies rfl (by decide) (by decide) rfl (rc1 c1I rc0) (by decide) (fun x1145 G1144 h => ?_)
                                                                      refine r_icmp_eq (tgt := 1331) dL_law_1071 (by decide) h (fun h => ?_) (fun h => ?_)
                                                                      · exact w_L_law_1331 hk23 h
                                                                      · refine r_iconst dL_law_1074 ?_
                                                                        refine wp.cast (st' := [vB false]) rfl (congrArg (fun q => [q]) vI0) ?_
                                                                        exact r_zret rfl dL_law_1075 ⟨_, rfl, h⟩
                                                                    · refine r_swc h (fun e33 h => ?_) (fun e33 h => ?_)
                                                                      · refine r_tsIn (tgt := 1076) dL_law_39 hr e33 (by decide) (by decide) rfl (by decide) ?_
                                                                        refine r_aload_n dL_law_1076 rfl rfl iR ?_
                                                                        obtain ⟨a1146, e, h⟩ := h
                                                                        refine wp.cast (L' := [some (vR (some a0)), some (vR (some a1146)), some (vR l2), some (vR l3), some (vI l4), none, none, none]) (st' := [vR (some a1146)]) (by rw [e]) (by rw [e]) ?_
                                                                        obtain ⟨k1148, n1149, ⟨hk1, hn1⟩, h⟩ := h
                                                                        obtain ⟨hC, h⟩ := h
                                                                        refine r_callV dL_law_1077 hC (c_X1_fits h) q2037 q2038 q2039 q92 q2040 rfl yo_X1_fits rfl (by decide) (by decide) rfl rc0 (by decide) hk1 hn1 (ofI fun x1150 G1147 h => ?_) nox
                                                                        refine r_aload_n dL_law_1080 rfl rfl iR ?_
                                                                        obtain ⟨a1151, e, h⟩ := h
                                                                        refine wp.cast (L' := [some (vR (some a0)), some (vR (some a1146)), some (vR (some a1151)), some (vR l3), some (vI l4), none, none, none]) (st' := [vR (some a1151), vI x1150]) (by rw [e]) (by rw [e]) ?_
                                                                        refine r_tcI dL_law_1081 (fun h hT hG => c_X4_fits h hT hG) h q2694 q2695 q2696 q117 q2697 rfl yo_X4_fits rfl (by decide) (by decide) rfl (rc1 c1I rc0) (by decide) (fun x1153 G1152 h => ?_)
                                                                        refine r_icmp_eq (tgt := 1331) dL_law_1084 (by decide) h (fun h => ?_) (fun h => ?_)
                                                                        · exact w_L_law_1331 hk23 h
                                                                        · refine r_iconst dL_law_1087 ?_
                                                                          refine wp.cast (st' := [vB false]) rfl (congrArg (fun q => [q]) vI0) ?_
                                                                          exact r_zret rfl dL_law_1088 ⟨_, rfl, h⟩
                                                                      · refine r_swc h (fun e34 h => ?_) (fun e34 h => ?_)
                                                                        · refine r_tsIn (tgt := 1089) dL_law_39 hr e34 (by decide) (by decide) rfl (by decide) ?_
                                                                          refine r_aload_n dL_law_1089 rfl rfl iR ?_
                                                                          obtain ⟨a1154, e, h⟩ := h
                                                                          refine wp.cast (L' := [some (vR (some a0)), some (vR (some a1154)), some (vR l2), some (vR l3), some (vI l4), none, none, none]) (st' := [vR (some a1154)]) (by rw [e]) (by rw [e]) ?_
                                                                          obtain ⟨k1156, n1157, ⟨hk1, hn1⟩, h⟩ := h
                                                                          obtain ⟨hC, h⟩ := h
                                                                          refine r_callV dL_law_1090 hC (c_X1_asks h) q2056 q2057 q2058 q92 q2059 rfl yo_X1_asks rfl (by decide) (by decide) rfl rc0 (by decide) hk1 hn1 (ofI fun x1158 G1155 h => ?_) nox
                                                                          refine r_aload_n dL_law_1093 rfl rfl iR ?_
                                                                          obtain ⟨a1159, e, h⟩ := h
                                                                          refine wp.cast (L' := [some (vR (some a0)), some (vR (some a1154)), some (vR (some a1159)), some (vR l3), some (vI l4), none, none, none]) (st' := [vR (some a1159), vI x1158]) (by rw [e]) (by rw [e]) ?_
                                                                          refine r_tcI dL_law_1094 (fun h hT hG => c_X4_asks h hT hG) h q2710 q2711 q2712 q117 q2713 rfl yo_X4_asks rfl (by decide) (by decide) rfl (rc1 c1I rc0) (by decide) (fun x1161 G1160 h => ?_)
                                                                          refine r_icmp_eq (tgt := 1331) dL_law_1097 (by decide) h (fun h => ?_) (fun h => ?_)
                                                                          · exact w_L_law_1331 hk23 h
                                                                          · refine r_iconst dL_law_1100 ?_
                                                                            refine wp.cast (st' := [vB false]) rfl (congrArg (fun q => [q]) vI0) ?_
                                                                            exact r_zret rfl dL_law_1101 ⟨_, rfl, h⟩
                                                                        · refine r_swc h (fun e35 h => ?_) (fun e35 h => ?_)
                                                                          · refine r_tsIn (tgt := 1102) dL_law_39 hr e35 (by decide) (by decide) rfl (by decide) ?_
                                                                            refine r_aload_n dL_law_1102 rfl rfl iR ?_
                                                                            refine r_aload_n dL_law_1103 rfl rfl iR ?_
                                                                            refine r_iload dL_law_1104 rfl iI ?_
                                                                            refine r_iconst dL_law_1106 ?_
                                                                            refine r_iadd dL_law_1107 ?_
                                                                            refine r_ialdC dL_law_1108 h (fun x1162 h => ?_)
                                                                            refine r_aload_n dL_law_1109 rfl rfl iR ?_
                                                                            refine r_iload dL_law_1110 rfl iI ?_
                                                                            refine r_iconst dL_law_1112 ?_
                                                                            refine r_iadd dL_law_1113 ?_
                                                                            refine r_ialdC dL_law_1114 h (fun x1163 h => ?_)
                                                                            refine r_aload_n dL_law_1115 rfl rfl iR ?_
                                                                            refine r_iload dL_law_1116 rfl iI ?_
                                                                            refine r_iconst dL_law_1118 ?_
                                                                            refine r_iadd dL_law_1119 ?_
                                                                            refine r_ialdC dL_law_1120 h (fun x1164 h => ?_)
                                                                            obtain ⟨a1165, e, h⟩ := h
                                                                            refine wp.cast (L' := [some (vR (some a0)), some (vR (some a1165)), some (vR l2), some (vR l3), some (vI l4), none, none, none]) (st' := [vI x1164, vI x1163, vI x1162, vR (some a1165)]) (by rw [e]) (by rw [e]) ?_
                                                                            obtain ⟨k1167, n1168, ⟨hk1, hn1⟩, h⟩ := h
                                                                            obtain ⟨hC, h⟩ := h
                                                                            refine r_callV dL_law_1121 hC (c_X1_laps h) q2061 q2062 q2063 q92 q2064 rfl yo_X1_laps rfl (by decide) (by decide) rfl rc0 (by decide) hk1 hn1 (ofI fun x1169 G1166 h => ?_) nox
                                                                            refine r_aload_n dL_law_1124 rfl rfl iR ?_
                                                                            refine r_aload_n dL_law_1125 rfl rfl iR ?_
                                                                            refine r_iload dL_law_1126 rfl iI ?_
                                                                            refine r_iconst dL_law_1128 ?_
                                                                            refine r_iadd dL_law_1129 ?_
                                                                            refine r_ialdC dL_law_1130 h (fun x1170 h => ?_)
                                                                            refine r_aload_n dL_law_1131 rfl rfl iR ?_
                                                                            refine r_iload dL_law_1132 rfl iI ?_
                                                                            refine r_iconst dL_law_1134 ?_
                                                                            refine r_iadd dL_law_1135 ?_
                                                                            refine r_ialdC dL_law_1136 h (fun x1171 h => ?_)
                                                                            refine r_aload_n dL_law_1137 rfl rfl iR ?_
                                                                            refine r_iload dL_law_1138 rfl iI ?_
                                                                            refine r_iconst dL_law_1140 ?_
                                                                            refine r_iadd dL_law_1141 ?_
                                                                            refine r_ialdC dL_law_1142 h (fun x1172 h => ?_)
                                                                            obtain ⟨a1173, e, h⟩ := h
                                                                            refine wp.cast (L' := [some (vR (some a0)), some (vR (some a1165)), some (vR (some a1173)), some (vR l3), some (vI l4), none, none, none]) (st' := [vI x1172, vI x1171, vI x1170, vR (some a1173), vI x1169]) (by rw [e]) (by rw [e]) ?_
                                                                            refine r_tcI dL_law_1143 (fun h hT hG => c_X4_laps h hT hG) h q2719 q2720 q2721 q117 q2722 rfl yo_X4_laps rfl (by decide) (by decide) rfl (rc1 c1I rc0) (by decide) (fun x1175 G1174 h => ?_)
                                                                            refine r_icmp_eq (tgt := 1331) dL_law_1146 (by decide) h (fun h => ?_) (fun h => ?_)
                                                                            · exact w_L_law_1331 hk23 h
                                                                            · refine r_iconst dL_law_1149 ?_
                                                                              refine wp.cast (st' := [vB false]) rfl (congrArg (fun q => [q]) vI0) ?_
                                                                              exact r_zret rfl dL_law_1150 ⟨_, rfl, h⟩
                                                                          · refine r_swc h (fun e36 h => ?_) (fun e36 h => ?_)
                                                                            · refine r_tsIn (tgt := 1151) dL_law_39 hr e36 (by decide) (by decide) rfl (by decide) ?_
                                                                              refine r_aload_n dL_law_1151 rfl rfl iR ?_
                                                                              obtain ⟨a1176, e, h⟩ := h
                                                                              refine wp.cast (L' := [some (vR (some a0)), some (vR (some a1176)), some (vR l2), some (vR l3), some (vI l4), none, none, none]) (st' := [vR (some a1176)]) (by rw [e]) (by rw [e]) ?_
                                                                              obtain ⟨k1178, n1179, ⟨hk1, hn1⟩, h⟩ := h
                                                                              obtain ⟨hC, h⟩ := h
                                                                              refine r_callVX dL_law_1152 hC (c_X1_law h) q2067 q2068 q2069 q92 q2070 rfl yo_X1_law rfl (by decide) (by decide) rfl rc0 (by decide) hk1 hn1 (ofI fun x1180 G1177 h => ?_) nox
                                                                              refine r_aload_n dL_law_1155 rfl rfl iR ?_
                                                                              obtain ⟨a1181, e, h⟩ := h
                                                                              refine wp.cast (L' := [some (vR (some a0)), some (vR (some a1176)), some (vR (some a1181)), some (vR l3), some (vI l4), none, none, none]) (st' := [vR (some a1181), vI x1180]) (by rw [e]) (by rw [e]) ?_
                                                                              refine r_tcI dL_law_1156 (fun h hT hG => c_X4_law h hT hG) h q2725 q2726 q2727 q117 q2728 rfl yo_X4_law rfl (by decide) (by decide) rfl (rc1 c1I rc0) (by decide) (fun x1183 G1182 h => ?_)
                                                                              refine r_icmp_eq (tgt := 1331) dL_law_1159 (by decide) h (fun h => ?_) (fun h => ?_)
                                                                              · exact w_L_law_1331 hk23 h
                                                                              · refine r_iconst dL_law_1162 ?_
                                                                                refine wp.cast (st' := [vB false]) rfl (congrArg (fun q => [q]) vI0) ?_
                                                                                exact r_zret rfl dL_law_1163 ⟨_, rfl, h⟩
                                                                            · refine r_swc h (fun e37 h => ?_) (fun e37 h => ?_)
                                                                              · refine r_tsIn (tgt := 1164) dL_law_39 hr e37 (by decide) (by decide) rfl (by decide) ?_
                                                                                refine r_aload_n dL_law_1164 rfl rfl iR ?_
                                                                                refine r_aload_n dL_law_1165 rfl rfl iR ?_
                                                                                refine r_iload dL_law_1166 rfl iI ?_
                                                                                refine r_iconst dL_law_1168 ?_
                                                                                refine r_iadd dL_law_1169 ?_
                                                                                refine r_ialdC dL_law_1170 h (fun x1184 h => ?_)
                                                                                refine r_aload_n dL_law_1171 rfl rfl iR ?_
                                                                                refine r_iload dL_law_1172 rfl iI ?_
                                                                                refine r_iconst dL_law_1174 ?_
                                                                                refine r_iadd dL_law_1175 ?_
                                                                                refine r_ialdC dL_law_1176 h (fun x1185 h => ?_)
                                                                                obtain ⟨a1186, e, h⟩ := h
                                                                                refine wp.cast (L' := [some (vR (some a0)), some (vR (some a1186)), some (vR l2), some (vR l3), some (vI l4), none, none, none]) (st' := [vI x1185, vI x1184, vR (some a1186)]) (by rw [e]) (by rw [e]) ?_
                                                                                obtain ⟨k1188, n1189, ⟨hk1, hn1⟩, h⟩ := h
                                                                                obtain ⟨hC, h⟩ := h
                                                                                refine r_callV dL_law_1177 hC (c_X1_years h) q2075 q2076 q2077 q92 q2078 rfl yo_X1_years rfl (by decide) (by decide) rfl rc0 (by decide) hk1 hn1 (ofI fun x1190 G1187 h => ?_) nox
                                                                                refine r_aload_n dL_law_1180 rfl rfl iR ?_
                                                                                refine r_aload_n dL_law_1181 rfl rfl iR ?_
                                                                                refine r_iload dL_law_1182 rfl iI ?_
                                                                                refine r_iconst dL_law_1184 ?_
                                                                                refine r_iadd dL_law_1185 ?_
                                                                                refine r_ialdC dL_law_1186 h (fun x1191 h => ?_)
                                                                                refine r_aload_n dL_law_1187 rfl rfl iR ?_
                                                                                refine r_iload dL_law_1188 rfl iI ?_
                                                                                refine r_iconst dL_law_1190 ?_
                                                                                refine r_iadd dL_law_1191 ?_
                                                                                refine r_ialdC dL_law_1192 h (fun x1192 h => ?_)
                                                                                obtain ⟨a1193, e, h⟩ := h
                                                                                refine wp.cast (L' := [some (vR (some a0)), some (vR (some a1186)), some (vR (some a1193)), some (vR l3), some (vI l4), none, none, none]) (st' := [vI x1192, vI x1191, vR (some a1193), vI x1190]) (by rw [e]) (by rw [e]) ?_
                                                                                refine r_tcI dL_law_1193 (fun h hT hG => c_X4_years h hT hG) h q2733 q2734 q2735 q117 q2736 rfl yo_X4_years rfl (by decide) (by decide) rfl (rc1 c1I rc0) (by decide) (fun x1195 G1194 h => ?_)
                                                                                refine r_icmp_eq (tgt := 1331) dL_law_1196 (by decide) h (fun h => ?_) (fun h => ?_)
                                                                                · exact w_L_law_1331 hk23 h
                                                                                · refine r_iconst dL_law_1199 ?_
                                                                                  refine wp.cast (st' := [vB false]) rfl (congrArg (fun q => [q]) vI0) ?_
                                                                                  exact r_zret rfl dL_law_1200 ⟨_, rfl, h⟩
                                                                              · refine r_swc h (fun e38 h => ?_) (fun e38 h => ?_)
                                                                                · refine r_tsIn (tgt := 1201) dL_law_39 hr e38 (by decide) (by decide) rfl (by decide) ?_
                                                                                  refine r_aload_n dL_law_1201 rfl rfl iR ?_
                                                                                  refine r_aload_n dL_law_1202 rfl rfl iR ?_
                                                                                  refine r_iload dL_law_1203 rfl iI ?_
                                                                                  refine r_iconst dL_law_1205 ?_
                                                                                  refine r_iadd dL_law_1206 ?_
                                                                                  refine r_ialdC dL_law_1207 h (fun x1196 h => ?_)
                                                                                  obtain ⟨a1197, e, h⟩ := h
                                                                                  refine wp.cast (L' := [some (vR (some a0)), some (vR (some a1197)), some (vR l2), some (vR l3), some (vI l4), none, none, none]) (st' := [vI x1196, vR (some a1197)]) (by rw [e]) (by rw [e]) ?_
                                                                                  obtain ⟨k1199, n1200, ⟨hk1, hn1⟩, h⟩ := h
                                                                                  obtain ⟨hC, h⟩ := h
                                                                                  refine r_callV dL_law_1208 hC (c_X1_keep h) q2092 q2093 q2094 q92 q2095 rfl yo_X1_keep rfl (by decide) (by decide) rfl rc0 (by decide) hk1 hn1 (ofB fun x1201 G1198 h => ?_) nox
                                                                                  refine r_aload_n dL_law_1211 rfl rfl iR ?_
                                                                                  refine r_aload_n dL_law_1212 rfl rfl iR ?_
                                                                                  refine r_iload dL_law_1213 rfl iI ?_
                                                                                  refine r_iconst dL_law_1215 ?_
                                                                                  refine r_iadd dL_law_1216 ?_
                                                                                  refine r_ialdC dL_law_1217 h (fun x1202 h => ?_)
                                                                                  obtain ⟨a1203, e, h⟩ := h
                                                                                  refine wp.cast (L' := [some (vR (some a0)), some (vR (some a1197)), some (vR (some a1203)), some (vR l3), some (vI l4), none, none, none]) (st' := [vI x1202, vR (some a1203), vB x1201]) (by rw [e]) (by rw [e]) ?_
                                                                                  refine r_tcB dL_law_1218 (fun h hT hG => c_X4_keep h hT hG) h q2746 q2747 q2748 q117 q2749 rfl yo_X4_keep rfl (by decide) (by decide) rfl (rc1 c1B rc0) (by decide) (fun x1205 G1204 h => ?_)
                                                                                  refine wp.cast (st' := [vI (b2i x1205), vB x1201]) rfl (congrArg (fun q => [q, vB x1201]) (vBI x1205)) ?_
                                                                                  refine wp.cast (st' := [vI (b2i x1205), vI (b2i x1201)]) rfl (congrArg (fun q => [vI (b2i x1205), q]) (vBI x1201)) ?_
                                                                                  refine r_icmp_eq (tgt := 1331) dL_law_1221 (by decide) h (fun h => ?_) (fun h => ?_)
                                                                                  · exact w_L_law_1331 hk23 h
                                                                                  · refine r_iconst dL_law_1224 ?_
                                                                                    refine wp.cast (st' := [vB false]) rfl (congrArg (fun q => [q]) vI0) ?_
                                                                                    exact r_zret rfl dL_law_1225 ⟨_, rfl, h⟩
                                                                                · refine r_swc h (fun e39 h => ?_) (fun e39 h => ?_)
                                                                                  · refine r_tsIn (tgt := 1226) dL_law_39 hr e39 (by decide) (by decide) rfl (by decide) ?_
                                                                                    refine r_aload_n dL_law_1226 rfl rfl iR ?_
                                                                                    refine r_aload_n dL_law_1227 rfl rfl iR ?_
                                                                                    refine r_iload dL_law_1228 rfl iI ?_
                                                                                    refine r_iconst dL_law_1230 ?_
                                                                                    refine r_iadd dL_law_1231 ?_
                                                                                    refine r_ialdC dL_law_1232 h (fun x1206 h => ?_)
                                                                                    obtain ⟨a1207, e, h⟩ := h
                                                                                    refine wp.cast (L' := [some (vR (some a0)), some (vR (some a1207)), some (vR l2), some (vR l3), some (vI l4), none, none, none]) (st' := [vI x1206, vR (some a1207)]) (by rw [e]) (by rw [e]) ?_
                                                                                    obtain ⟨k1209, n1210, ⟨hk1, hn1⟩, h⟩ := h
                                                                                    obtain ⟨hC, h⟩ := h
                                                                                    refine r_callV dL_law_1233 hC (c_X1_again h) q2096 q2097 q2098 q92 q2099 rfl yo_X1_again rfl (by decide) (by decide) rfl rc0 (by decide) hk1 hn1 (ofB fun x1211 G1208 h => ?_) nox
                                                                                    refine r_aload_n dL_law_1236 rfl rfl iR ?_
                                                                                    refine r_aload_n dL_law_1237 rfl rfl iR ?_
                                                                                    refine r_iload dL_law_1238 rfl iI ?_
                                                                                    refine r_iconst dL_law_1240 ?_
                                                                                    refine r_iadd dL_law_1241 ?_
                                                                                    refine r_ialdC dL_law_1242 h (fun x1212 h => ?_)
                                                                                    obtain ⟨a1213, e, h⟩ := h
                                                                                    refine wp.cast (L' := [some (vR (some a0)), some (vR (some a1207)), some (vR (some a1213)), some (vR l3), some (vI l4), none, none, none]) (st' := [vI x1212, vR (some a1213), vB x1211]) (by rw [e]) (by rw [e]) ?_
                                                                                    refine r_tcB dL_law_1243 (fun h hT hG => c_X4_again h hT hG) h q2750 q2751 q2752 q117 q2753 rfl yo_X4_again rfl (by decide) (by decide) rfl (rc1 c1B rc0) (by decide) (fun x1215 G1214 h => ?_)
                                                                                    refine wp.cast (st' := [vI (b2i x1215), vB x1211]) rfl (congrArg (fun q => [q, vB x1211]) (vBI x1215)) ?_
                                                                                    refine wp.cast (st' := [vI (b2i x1215), vI (b2i x1211)]) rfl (congrArg (fun q => [vI (b2i x1215), q]) (vBI x1211)) ?_
                                                                                    refine r_icmp_eq (tgt := 1331) dL_law_1246 (by decide) h (fun h => ?_) (fun h => ?_)
                                                                                    · exact w_L_law_1331 hk23 h
                                                                                    · refine r_iconst dL_law_1249 ?_
                                                                                      refine wp.cast (st' := [vB false]) rfl (congrArg (fun q => [q]) vI0) ?_
                                                                                      exact r_zret rfl dL_law_1250 ⟨_, rfl, h⟩
                                                                                  · refine r_swc h (fun e40 h => ?_) (fun e40 h => ?_)
                                                                                    · refine r_tsIn (tgt := 1251) dL_law_39 hr e40 (by decide) (by decide) rfl (by decide) ?_
                                                                                      refine r_aload_n dL_law_1251 rfl rfl iR ?_
                                                                                      refine r_aload_n dL_law_1252 rfl rfl iR ?_
                                                                                      refine r_iload dL_law_1253 rfl iI ?_
                                                                                      refine r_iconst dL_law_1255 ?_
                                                                                      refine r_iadd dL_law_1256 ?_
                                                                                      refine r_ialdC dL_law_1257 h (fun x1216 h => ?_)
                                                                                      obtain ⟨a1217, e, h⟩ := h
                                                                                      refine wp.cast (L' := [some (vR (some a0)), some (vR (some a1217)), some (vR l2), some (vR l3), some (vI l4), none, none, none]) (st' := [vI x1216, vR (some a1217)]) (by rw [e]) (by rw [e]) ?_
                                                                                      obtain ⟨hC, h⟩ := h
                                                                                      refine r_callV dL_law_1258 hC (c_X1_count h) q2100 q2101 q2102 q92 q2103 rfl yo_X1_count rfl (by decide) (by decide) rfl rc0 (by decide) (Nat.zero_le _) (Nat.zero_le _) (ofI fun x1219 G1218 h => ?_) nox
                                                                                      refine r_aload_n dL_law_1261 rfl rfl iR ?_
                                                                                      refine r_aload_n dL_law_1262 rfl rfl iR ?_
                                                                                      refine r_iload dL_law_1263 rfl iI ?_
                                                                                      refine r_iconst dL_law_1265 ?_
                                                                                      refine r_iadd dL_law_1266 ?_
                                                                                      refine r_ialdC dL_law_1267 h (fun x1220 h => ?_)
                                                                                      obtain ⟨a1221, e, h⟩ := h
                                                                                      refine wp.cast (L' := [some (vR (some a0)), some (vR (some a1217)), some (vR (some a1221)), some (vR l3), some (vI l4), none, none, none]) (st' := [vI x1220, vR (some a1221), vI x1219]) (by rw [e]) (by rw [e]) ?_
                                                                                      refine r_tcI dL_law_1268 (fun h hT hG => c_X4_count h hT hG) h q2754 q2755 q2756 q117 q2757 rfl yo_X4_count rfl (by decide) (by decide) rfl (rc1 c1I rc0) (by decide) (fun x1223 G1222 h => ?_)
                                                                                      refine r_icmp_eq (tgt := 1331) dL_law_1271 (by decide) h (fun h => ?_) (fun h => ?_)
                                                                                      · exact w_L_law_1331 hk23 h
                                                                                      · refine r_iconst dL_law_1274 ?_
                                                                                        refine wp.cast (st' := [vB false]) rfl (congrArg (fun q => [q]) vI0) ?_
                                                                                        exact r_zret rfl dL_law_1275 ⟨_, rfl, h⟩
                                                                                    · refine r_swc h (fun e41 h => ?_) (fun e41 h => ?_)
                                                                                      · refine r_tsIn (tgt := 1276) dL_law_39 hr e41 (by decide) (by decide) rfl (by decide) ?_
                                                                                        refine r_aload_n dL_law_1276 rfl rfl iR ?_
                                                                                        refine r_aload_n dL_law_1277 rfl rfl iR ?_
                                                                                        refine r_iload dL_law_1278 rfl iI ?_
                                                                                        refine r_iconst dL_law_1280 ?_
                                                                                        refine r_iadd dL_law_1281 ?_
                                                                                        refine r_ialdC dL_law_1282 h (fun x1224 h => ?_)
                                                                                        refine r_aload_n dL_law_1283 rfl rfl iR ?_
                                                                                        obtain ⟨k1226, n1227, ⟨hk1, hn1⟩, h⟩ := h
                                                                                        refine r_callSX dL_law_1284 (c_X0_row h) q2114 q2115 q91 q2116 yo_X0_row rfl (by decide) (by decide) rfl rc0 (by decide) hk1 hn1 (ofI fun x1228 G1225 h => ?_) nox
                                                                                        refine r_istore (L' := [some (vR (some a0)), some (vR l1), some (vR l2), some (vR l3), some (vI l4), some (vI x1228), none, none]) dL_law_1287 rfl iI cI (by decide) ?_
                                                                                        refine r_aload_n dL_law_1289 rfl rfl iR ?_
                                                                                        refine r_aload_n dL_law_1290 rfl rfl iR ?_
                                                                                        refine r_iload dL_law_1291 rfl iI ?_
                                                                                        refine r_iconst dL_law_1293 ?_
                                                                                        refine r_iadd dL_law_1294 ?_
                                                                                        refine r_ialdC dL_law_1295 h (fun x1229 h => ?_)
                                                                                        obtain ⟨a1230, e, h⟩ := h
                                                                                        refine wp.cast (L' := [some (vR (some a0)), some (vR l1), some (vR (some a1230)), some (vR l3), some (vI l4), some (vI x1228), none, none]) (st' := [vI x1229, vR (some a1230)]) (by rw [e]) (by rw [e]) ?_
                                                                                        refine r_tcJ dL_law_1296 (fun h hT hG => c_X4_row h hT hG) h q2758 q2759 q2760 q117 q2761 rfl yo_X4_row rfl (by decide) (by decide) rfl rc0 (by decide) (fun x1232 G1231 h => ?_)
                                                                                        refine r_lstore (L' := [some (vR (some a0)), some (vR l1), some (vR (some a1230)), some (vR l3), some (vI l4), some (vI x1228), some (vJ x1232), none]) dL_law_1299 rfl iJ cI (by decide) ?_
                                                                                        refine r_aload_n dL_law_1301 rfl rfl iR ?_
                                                                                        refine r_tcI dL_law_1302 (fun h hT hG => c_X4_thrown h hT hG) h q2121 q2122 q2123 q117 q2124 rfl yo_X4_thrown rfl (by decide) (by decide) rfl rc0 (by decide) (fun x1234 G1233 h => ?_)
                                                                                        refine r_iload dL_law_1305 rfl iI ?_
                                                                                        refine r_icmp_eq (tgt := 1312) dL_law_1307 (by decide) h (fun h => ?_) (fun h => ?_)
                                                                                        · refine r_iload dL_law_1312 rfl iI ?_
                                                                                          refine r_if_ne (tgt := 1328) dL_law_1314 (by decide) h (fun h => ?_) (fun h => ?_)
                                                                                          · refine wp.locals (L' := [some (vR (some a0)), some (vR l1), some (vR (some a1230)), some (vR l3), some (vI l4), none, none, none]) (ls_s (ls_s (ls_s (ls_s (ls_s (ls_n (ls_n (ls_n ls_0)))))))) ?_
                                                                                            exact w_L_law_1328 hk23 h
                                                                                          · refine r_aload_n dL_law_1317 rfl rfl iR ?_
                                                                                            refine r_iconst dL_law_1318 ?_
                                                                                            obtain ⟨a1235, e, h⟩ := h
                                                                                            refine wp.cast (L' := [some (vR (some a0)), some (vR l1), some (vR (some a1230)), some (vR (some a1235)), some (vI l4), some (vI x1228), some (vJ x1232), none]) (st' := [vI 0, vR (some a1235)]) (by rw [e]) (by rw [e]) ?_
                                                                                            refine r_lald dL_law_1319 h (fun x1236 h => ?_)
                                                                                            refine r_lload dL_law_1320 rfl iJ ?_
                                                                                            refine r_lcmp dL_law_1322 h (fun h => ?_)
                                                                                            refine r_if_eq (tgt := 1328) dL_law_1323 (by decide) h (fun h => ?_) (fun h => ?_)
                                                                                            · refine wp.locals (L' := [some (vR (some a0)), some (vR l1), some (vR (some a1230)), some (vR (some a1235)), some (vI l4), none, none, none]) (ls_s (ls_s (ls_s (ls_s (ls_s (ls_n (ls_n (ls_n ls_0)))))))) ?_
                                                                                              exact w_L_law_1328 hk23 h
                                                                                            · refine r_iconst dL_law_1326 ?_
                                                                                              refine wp.cast (st' := [vB false]) rfl (congrArg (fun q => [q]) vI0) ?_
                                                                                              exact r_zret rfl dL_law_1327 ⟨_, rfl, h⟩
                                                                                        · refine r_iconst dL_law_1310 ?_
                                                                                          refine wp.cast (st' := [vB false]) rfl (congrArg (fun q => [q]) vI0) ?_
                                                                                          exact r_zret rfl dL_law_1311 ⟨_, rfl, h⟩
                                                                                      · refine r_tsOut (tgt := 1331) dL_law_39 hr (by omega) (by decide) ?_
                                                                                        exact w_L_law_1331 hk23 h
def f_L_law_23 (a0 : Nat) (Q : Bool → Wd → Prop) : Nat → Nat → Nat → Option Nat → Option Nat → Option Nat → Int → Wd → Prop
  | 0, _, _, _, _, _, _, _ => False
  | fl + 1, k, n, l1, l2, l3, l4, G => f_L_law_23_b a0  (fun k n l1 l2 l3 l4 G => f_L_law_23 a0  Q fl k n l1 l2 l3 l4 G) k n l1 l2 l3 l4 G Q
theorem w_L_law_23 {a0 : Nat} {Q : Bool → Wd → Prop} : ∀ (fl : Nat) {k n : Nat} {l1 : Option Nat} {l2 : Option Nat} {l3 : Option Nat} {l4 : Int} {G : Wd}, f_L_law_23 a0 Q fl k n l1 l2 l3 l4 G → wp m_L_law 227 k n 23 [some (vR (some a0)), some (vR l1), some (vR l2), some (vR l3), some (vI l4), none, none, none] [] G (qB Q) noX := by
  intro fl
  induction fl with
  | zero => intro k n l1 l2 l3 l4 G h; exact (show False from h).elim
  | succ fl ih => intro k n l1 l2 l3 l4 G h; exact w_L_law_23_b  (fun h => ih h) h
def f_L_law (k n : Nat) (a0 : Nat) (G : Wd) (Q : Bool → Wd → Prop) : Prop :=
  nO G k n 0 22 zX1 (fun a1237 G1238 => (∃ k1240 n1241, (k1240 ≤ (k - 1) ∧ n1241 ≤ (n - 22)) ∧ f_X1_init k1240 n1241 a1237  G1238 (fun G1239 => nO G1239 ((k - 1) - k1240) ((n - 22) - n1241) 3 45 zX4 (fun a1242 G1243 => (∃ k1245 n1246, (k1245 ≤ (((k - 1) - k1240) - 1) ∧ n1246 ≤ (((n - 22) - n1241) - 45)) ∧ f_X4_init k1245 n1246 a1242  G1243 (fun G1244 => nA G1244 ((((k - 1) - k1240) - 1) - k1245) ((((n - 22) - n1241) - 45) - n1246) 1 (fun l => aJ l (fun _ => 0)) (fun a1247 G1248 => ∃ fl1249, f_L_law_23 a0 Q fl1249 (((((k - 1) - k1240) - 1) - k1245) - 1) (((((n - 22) - n1241) - 45) - n1246) - (1 : Int).toNat) (some a1237) (some a1242) (some a1247) 0 G1248)))))))
theorem w_L_law {a0 : Nat} {Q : Bool → Wd → Prop} {k n : Nat} {G : Wd} (h : f_L_law k n a0 G Q) : wp m_L_law 227 k n 0 [some (vR (some a0)), none, none, none, none, none, none, none] [] G (qB Q) noX := by
  unfold f_L_law at h
  refine r_new dL_law_0 fX1 q136 q137 q92 dfX1 h (fun a1237 G1238 h => ?_)
  refine r_dup dL_law_3 c1R ?_
  obtain ⟨k1240, n1241, ⟨hk1, hn1⟩, h⟩ := h
  refine r_callI dL_law_4 (c_X1_init h) rfl q138 q139 q92 q140 yo_X1_init rfl (by decide) (by decide) rfl (rc1 c1R rc0) (by decide) hk1 hn1 (ofV fun G1239 h => ?_) nox
  refine r_astore_n (L' := [some (vR (some a0)), some (vR (some a1237)), none, none, none, none, none, none]) dL_law_7 rfl rfl iR cR (by decide) ?_
  refine r_new dL_law_8 fX4 q2216 q2143 q117 dfX4 h (fun a1242 G1243 h => ?_)
  refine r_dup dL_law_11 c1R ?_
  obtain ⟨k1245, n1246, ⟨hk1, hn1⟩, h⟩ := h
  refine r_callI dL_law_12 (c_X4_init h) rfl q2217 q2218 q117 q2219 yo_X4_init rfl (by decide) (by decide) rfl (rc1 c1R rc0) (by decide) hk1 hn1 (ofV fun G1244 h => ?_) nox
  refine r_astore_n (L' := [some (vR (some a0)), some (vR (some a1237)), some (vR (some a1242)), none, none, none, none, none]) dL_law_15 rfl rfl iR cR (by decide) ?_
  refine r_iconst dL_law_16 ?_
  refine r_newJ dL_law_17 h (fun a1247 G1248 h => ?_)
  refine r_astore_n (L' := [some (vR (some a0)), some (vR (some a1237)), some (vR (some a1242)), some (vR (some a1247)), none, none, none, none]) dL_law_19 rfl rfl iR cR (by decide) ?_
  refine r_iconst dL_law_20 ?_
  refine r_istore (L' := [some (vR (some a0)), some (vR (some a1237)), some (vR (some a1242)), some (vR (some a1247)), some (vI 0), none, none, none]) dL_law_21 rfl iI cR (by decide) ?_
  obtain ⟨fl1249, h⟩ := h
  exact w_L_law_23 fl1249 h
