/-! the classes whose objects are made, numbered -/
def kcl : List vw_C := [(RX0, TX0, 8), (RX1, TX1, 17), (RX2, TX2, 1), (RX3, TX3, 18), (RX5, TX5, 3), (RX6, TX6, 4), (RX7, TX7, 2), (RX8, TX8, 4), (RX9, TX9, 8), (RX10, TX10, 4), (RX11, TX11, 2), (RX12, TX12, 3), (RX14, TX14, 3), (RX15, TX15, 6), (RX16, TX16, 3), (RX17, TX17, 3), (RX18, TX18, 3), (RX19, TX19, 4), (RX20, TX20, 5), (RX21, TX21, 4), (RX22, TX22, 3), (RX23, TX23, 3), (RX24, TX24, 3), (RX25, TX25, 6), (RX26, TX26, 2), (RX27, TX27, 3), (RX28, TX28, 4), (RX29, TX29, 7), (RX30, TX30, 2), (RX31, TX31, 3), (RJ2, TJ2, 3), (RJ3, TJ3, 3), (RJ4, TJ4, 3), (RJ5, TJ5, 4), (RJ15, TJ15, 4), (RJ16, TJ16, 4), (RJ23, TJ23, 4)]
theorem kcl_object : ∀ (c : Nat) (r : vw_C), kcl[c]? = some r → Cond.castable r.1 "java/lang/Object" ∈ lw_tbl := by
  intro c r h
  match c, h with
  | 0, h => cases h; exact q2808
  | 1, h => cases h; exact q2809
  | 2, h => cases h; exact q2811
  | 3, h => cases h; exact q2814
  | 4, h => cases h; exact q2815
  | 5, h => cases h; exact q2817
  | 6, h => cases h; exact q2818
  | 7, h => cases h; exact q2819
  | 8, h => cases h; exact q2823
  | 9, h => cases h; exact q2831
  | 10, h => cases h; exact q2832
  | 11, h => cases h; exact q2833
  | 12, h => cases h; exact q2845
  | 13, h => cases h; exact q2847
  | 14, h => cases h; exact q2825
  | 15, h => cases h; exact q2820
  | 16, h => cases h; exact q2821
  | 17, h => cases h; exact q2822
  | 18, h => cases h; exact q2824
  | 19, h => cases h; exact q2826
  | 20, h => cases h; exact q2827
  | 21, h => cases h; exact q2828
  | 22, h => cases h; exact q2829
  | 23, h => cases h; exact q2830
  | 24, h => cases h; exact q2836
  | 25, h => cases h; exact q2837
  | 26, h => cases h; exact q2839
  | 27, h => cases h; exact q2840
  | 28, h => cases h; exact q2841
  | 29, h => cases h; exact q2842
  | 30, h => cases h; exact q2810
  | 31, h => cases h; exact q2812
  | 32, h => cases h; exact q2813
  | 33, h => cases h; exact q2816
  | 34, h => cases h; exact q2834
  | 35, h => cases h; exact q2807
  | 36, h => cases h; exact q2838
  | c + 37, h => simp [kcl] at h
theorem kcl_string : ∀ (r : vw_C), kcl[kn_String]? = some r → r.1 = "java/lang/String" := by
  intro r h
  cases h
  rfl
theorem kz_RC_ok : ∀ j, j < 8 → defaultValue (tyX0 j) = vp_V kz_RC j := by
  intro j hj
  match j, hj with
  | 0, _ => rfl
  | 1, _ => rfl
  | 2, _ => rfl
  | 3, _ => rfl
  | 4, _ => rfl
  | 5, _ => rfl
  | 6, _ => rfl
  | 7, _ => rfl
  | j + 8, h => omega
theorem kz_Shop_ok : ∀ j, j < 17 → defaultValue (tyX1 j) = vp_V kz_Shop j := by
  intro j hj
  match j, hj with
  | 0, _ => rfl
  | 1, _ => rfl
  | 2, _ => rfl
  | 3, _ => rfl
  | 4, _ => rfl
  | 5, _ => rfl
  | 6, _ => rfl
  | 7, _ => rfl
  | 8, _ => rfl
  | 9, _ => rfl
  | 10, _ => rfl
  | 11, _ => rfl
  | 12, _ => rfl
  | 13, _ => rfl
  | 14, _ => rfl
  | 15, _ => rfl
  | 16, _ => rfl
  | j + 17, h => omega
theorem kz_Beads_ok : ∀ j, j < 1 → defaultValue (tyX2 j) = vp_V kz_Beads j := by
  intro j hj
  match j, hj with
  | 0, _ => rfl
  | j + 1, h => omega
theorem kz_Model_ok : ∀ j, j < 18 → defaultValue (tyX3 j) = vp_V kz_Model j := by
  intro j hj
  match j, hj with
  | 0, _ => rfl
  | 1, _ => rfl
  | 2, _ => rfl
  | 3, _ => rfl
  | 4, _ => rfl
  | 5, _ => rfl
  | 6, _ => rfl
  | 7, _ => rfl
  | 8, _ => rfl
  | 9, _ => rfl
  | 10, _ => rfl
  | 11, _ => rfl
  | 12, _ => rfl
  | 13, _ => rfl
  | 14, _ => rfl
  | 15, _ => rfl
  | 16, _ => rfl
  | 17, _ => rfl
  | j + 18, h => omega
theorem kz_D1_ok : ∀ j, j < 3 → defaultValue (tyX5 j) = vp_V kz_D1 j := by
  intro j hj
  match j, hj with
  | 0, _ => rfl
  | 1, _ => rfl
  | 2, _ => rfl
  | j + 3, h => omega
theorem kz_Carver_ok : ∀ j, j < 4 → defaultValue (tyX6 j) = vp_V kz_Carver j := by
  intro j hj
  match j, hj with
  | 0, _ => rfl
  | 1, _ => rfl
  | 2, _ => rfl
  | 3, _ => rfl
  | j + 4, h => omega
theorem kz_Lens_ok : ∀ j, j < 2 → defaultValue (tyX7 j) = vp_V kz_Lens j := by
  intro j hj
  match j, hj with
  | 0, _ => rfl
  | 1, _ => rfl
  | j + 2, h => omega
theorem kz_Rosary_ok : ∀ j, j < 4 → defaultValue (tyX8 j) = vp_V kz_Rosary j := by
  intro j hj
  match j, hj with
  | 0, _ => rfl
  | 1, _ => rfl
  | 2, _ => rfl
  | 3, _ => rfl
  | j + 4, h => omega
theorem kz_Refused_ok : ∀ j, j < 8 → defaultValue (tyX9 j) = vp_V kz_Refused j := by
  intro j hj
  match j, hj with
  | 0, _ => rfl
  | 1, _ => rfl
  | 2, _ => rfl
  | 3, _ => rfl
  | 4, _ => rfl
  | 5, _ => rfl
  | 6, _ => rfl
  | 7, _ => rfl
  | j + 8, h => omega
theorem kz_Pilgrim_ok : ∀ j, j < 4 → defaultValue (tyX10 j) = vp_V kz_Pilgrim j := by
  intro j hj
  match j, hj with
  | 0, _ => rfl
  | 1, _ => rfl
  | 2, _ => rfl
  | 3, _ => rfl
  | j + 4, h => omega
theorem kz_Beads1_ok : ∀ j, j < 2 → defaultValue (tyX11 j) = vp_V kz_Beads1 j := by
  intro j hj
  match j, hj with
  | 0, _ => rfl
  | 1, _ => rfl
  | j + 2, h => omega
theorem kz_OfKind_ok : ∀ j, j < 3 → defaultValue (tyX12 j) = vp_V kz_OfKind j := by
  intro j hj
  match j, hj with
  | 0, _ => rfl
  | 1, _ => rfl
  | 2, _ => rfl
  | j + 3, h => omega
theorem kz_Sold_ok : ∀ j, j < 3 → defaultValue (tyX14 j) = vp_V kz_Sold j := by
  intro j hj
  match j, hj with
  | 0, _ => rfl
  | 1, _ => rfl
  | 2, _ => rfl
  | j + 3, h => omega
theorem kz_OutOfRange_ok : ∀ j, j < 6 → defaultValue (tyX15 j) = vp_V kz_OutOfRange j := by
  intro j hj
  match j, hj with
  | 0, _ => rfl
  | 1, _ => rfl
  | 2, _ => rfl
  | 3, _ => rfl
  | 4, _ => rfl
  | 5, _ => rfl
  | j + 6, h => omega
theorem kz_Bead_ok : ∀ j, j < 3 → defaultValue (tyX16 j) = vp_V kz_Bead j := by
  intro j hj
  match j, hj with
  | 0, _ => rfl
  | 1, _ => rfl
  | 2, _ => rfl
  | j + 3, h => omega
theorem kz_D2_ok : ∀ j, j < 3 → defaultValue (tyX17 j) = vp_V kz_D2 j := by
  intro j hj
  match j, hj with
  | 0, _ => rfl
  | 1, _ => rfl
  | 2, _ => rfl
  | j + 3, h => omega
theorem kz_D3_ok : ∀ j, j < 3 → defaultValue (tyX18 j) = vp_V kz_D3 j := by
  intro j hj
  match j, hj with
  | 0, _ => rfl
  | 1, _ => rfl
  | 2, _ => rfl
  | j + 3, h => omega
theorem kz_D4_ok : ∀ j, j < 4 → defaultValue (tyX19 j) = vp_V kz_D4 j := by
  intro j hj
  match j, hj with
  | 0, _ => rfl
  | 1, _ => rfl
  | 2, _ => rfl
  | 3, _ => rfl
  | j + 4, h => omega
theorem kz_D5_ok : ∀ j, j < 5 → defaultValue (tyX20 j) = vp_V kz_D5 j := by
  intro j hj
  match j, hj with
  | 0, _ => rfl
  | 1, _ => rfl
  | 2, _ => rfl
  | 3, _ => rfl
  | 4, _ => rfl
  | j + 5, h => omega
theorem kz_D6_ok : ∀ j, j < 4 → defaultValue (tyX21 j) = vp_V kz_D6 j := by
  intro j hj
  match j, hj with
  | 0, _ => rfl
  | 1, _ => rfl
  | 2, _ => rfl
  | 3, _ => rfl
  | j + 4, h => omega
theorem kz_D7_ok : ∀ j, j < 3 → defaultValue (tyX22 j) = vp_V kz_D7 j := by
  intro j hj
  match j, hj with
  | 0, _ => rfl
  | 1, _ => rfl
  | 2, _ => rfl
  | j + 3, h => omega
theorem kz_D8_ok : ∀ j, j < 3 → defaultValue (tyX23 j) = vp_V kz_D8 j := by
  intro j hj
  match j, hj with
  | 0, _ => rfl
  | 1, _ => rfl
  | 2, _ => rfl
  | j + 3, h => omega
theorem kz_D9_ok : ∀ j, j < 3 → defaultValue (tyX24 j) = vp_V kz_D9 j := by
  intro j hj
  match j, hj with
  | 0, _ => rfl
  | 1, _ => rfl
  | 2, _ => rfl
  | j + 3, h => omega
theorem kz_D10_ok : ∀ j, j < 6 → defaultValue (tyX25 j) = vp_V kz_D10 j := by
  intro j hj
  match j, hj with
  | 0, _ => rfl
  | 1, _ => rfl
  | 2, _ => rfl
  | 3, _ => rfl
  | 4, _ => rfl
  | 5, _ => rfl
  | j + 6, h => omega
theorem kz_D11_ok : ∀ j, j < 2 → defaultValue (tyX26 j) = vp_V kz_D11 j := by
  intro j hj
  match j, hj with
  | 0, _ => rfl
  | 1, _ => rfl
  | j + 2, h => omega
theorem kz_D12_ok : ∀ j, j < 3 → defaultValue (tyX27 j) = vp_V kz_D12 j := by
  intro j hj
  match j, hj with
  | 0, _ => rfl
  | 1, _ => rfl
  | 2, _ => rfl
  | j + 3, h => omega
theorem kz_Reader_ok : ∀ j, j < 4 → defaultValue (tyX28 j) = vp_V kz_Reader j := by
  intro j hj
  match j, hj with
  | 0, _ => rfl
  | 1, _ => rfl
  | 2, _ => rfl
  | 3, _ => rfl
  | j + 4, h => omega
theorem kz_BadSign_ok : ∀ j, j < 7 → defaultValue (tyX29 j) = vp_V kz_BadSign j := by
  intro j hj
  match j, hj with
  | 0, _ => rfl
  | 1, _ => rfl
  | 2, _ => rfl
  | 3, _ => rfl
  | 4, _ => rfl
  | 5, _ => rfl
  | 6, _ => rfl
  | j + 7, h => omega
theorem kz_Command_ok : ∀ j, j < 2 → defaultValue (tyX30 j) = vp_V kz_Command j := by
  intro j hj
  match j, hj with
  | 0, _ => rfl
  | 1, _ => rfl
  | j + 2, h => omega
theorem kz_D13_ok : ∀ j, j < 3 → defaultValue (tyX31 j) = vp_V kz_D13 j := by
  intro j hj
  match j, hj with
  | 0, _ => rfl
  | 1, _ => rfl
  | 2, _ => rfl
  | j + 3, h => omega
theorem kz_AL_ok : ∀ j, j < 3 → defaultValue (tyJ2 j) = vp_V kz_AL j := by
  intro j hj
  match j, hj with
  | 0, _ => rfl
  | 1, _ => rfl
  | 2, _ => rfl
  | j + 3, h => omega
theorem kz_BS_ok : ∀ j, j < 3 → defaultValue (tyJ3 j) = vp_V kz_BS j := by
  intro j hj
  match j, hj with
  | 0, _ => rfl
  | 1, _ => rfl
  | 2, _ => rfl
  | j + 3, h => omega
theorem kz_AD_ok : ∀ j, j < 3 → defaultValue (tyJ4 j) = vp_V kz_AD j := by
  intro j hj
  match j, hj with
  | 0, _ => rfl
  | 1, _ => rfl
  | 2, _ => rfl
  | j + 3, h => omega
theorem kz_Itr_ok : ∀ j, j < 4 → defaultValue (tyJ5 j) = vp_V kz_Itr j := by
  intro j hj
  match j, hj with
  | 0, _ => rfl
  | 1, _ => rfl
  | 2, _ => rfl
  | 3, _ => rfl
  | j + 4, h => omega
theorem kz_DIt_ok : ∀ j, j < 4 → defaultValue (tyJ15 j) = vp_V kz_DIt j := by
  intro j hj
  match j, hj with
  | 0, _ => rfl
  | 1, _ => rfl
  | 2, _ => rfl
  | 3, _ => rfl
  | j + 4, h => omega
theorem kz_String_ok : ∀ j, j < 4 → defaultValue (tyJ16 j) = vp_V kz_String j := by
  intro j hj
  match j, hj with
  | 0, _ => rfl
  | 1, _ => rfl
  | 2, _ => rfl
  | 3, _ => rfl
  | j + 4, h => omega
theorem kz_SB_ok : ∀ j, j < 4 → defaultValue (tyJ23 j) = vp_V kz_SB j := by
  intro j hj
  match j, hj with
  | 0, _ => rfl
  | 1, _ => rfl
  | 2, _ => rfl
  | 3, _ => rfl
  | j + 4, h => omega
def R_law : String := "RosaryCarversLaw"
/-! constants by number: statics that hold a reference, statics that hold a number, texts, casts that fail -/
def kw_statR : List (Nat × String × String × String) := [(0, "java/util/ArrayList", "DEFAULTCAPACITY_EMPTY_ELEMENTDATA", "[Ljava/lang/Object;"), (2, "java/lang/Integer", "DigitOnes", "[B"), (3, "java/lang/Integer", "DigitTens", "[B"), (4, "java/lang/Throwable", "UNASSIGNED_STACK", "[Ljava/lang/StackTraceElement;"), (5, "java/lang/Throwable", "SUPPRESSED_SENTINEL", "Ljava/util/List;"), (7, "jdk/internal/util/Preconditions", "SIOOBE_FORMATTER", "Ljava/util/function/BiFunction;")]
def kw_statI : List (String × String × String × Int32) := [("java/lang/String", "COMPACT_STRINGS", "Z", 1), ("java/util/BitSet", "$assertionsDisabled", "Z", 1), ("java/lang/StringUTF16", "$assertionsDisabled", "Z", 1)]
def kw_strs : List (Nat × String × Nat × String) := [(10, "RosaryCarvers", 28, ""), (15, "RosaryCarvers", 363, "empty"), (18, "RosaryCarvers", 400, "large"), (21, "RosaryCarvers", 406, "small"), (11, "RosaryCarvers", 407, "begin"), (23, "RosaryCarvers", 409, "thread"), (16, "RosaryCarvers", 411, "knot"), (13, "RosaryCarvers", 413, "drop"), (20, "RosaryCarvers", 415, "mend"), (18, "RosaryCarvers$Reader", 17, "large"), (21, "RosaryCarvers$Reader", 19, "small"), (11, "RosaryCarvers$Reader", 21, "begin"), (23, "RosaryCarvers$Reader", 23, "thread"), (16, "RosaryCarvers$Reader", 25, "knot"), (13, "RosaryCarvers$Reader", 27, "drop"), (20, "RosaryCarvers$Reader", 29, "mend"), (25, "RosaryCarvers$Reader", 31, "wait"), (19, "RosaryCarversModel", 33, "large "), (22, "RosaryCarversModel", 35, "small "), (12, "RosaryCarversModel", 37, "begin "), (24, "RosaryCarversModel", 39, "thread "), (17, "RosaryCarversModel", 41, "knot "), (14, "RosaryCarversModel", 43, "drop "), (20, "RosaryCarversModel", 45, "mend"), (26, "RosaryCarversModel", 47, "wait "), (15, "RosaryCarversModel", 244, "empty")]
def kw_noc : List (String × String) := [("RosaryCarvers$OutOfRange", "RosaryCarvers$Refused")]
