/-! the checks of all instructions: printed by gen/gen06.py -/
theorem K0_0 : (L0.take 100).all (chkE 0) = true := by decide +kernel
theorem K0_1 : ((L0.drop 100).take 100).all (chkE 0) = true := by decide +kernel
theorem K0_2 : ((L0.drop 200).take 100).all (chkE 0) = true := by decide +kernel
theorem K0_3 : ((L0.drop 300).take 100).all (chkE 0) = true := by decide +kernel
theorem K0_4 : ((L0.drop 400).take 100).all (chkE 0) = true := by decide +kernel
theorem K0_5 : ((L0.drop 500).take 100).all (chkE 0) = true := by decide +kernel
set_option maxRecDepth 100000 in
theorem K0 : L0.all (chkE 0) = true := by
  have h : L0 = L0.take 100 ++ ((L0.drop 100).take 100 ++ ((L0.drop 200).take 100 ++ ((L0.drop 300).take 100 ++ ((L0.drop 400).take 100 ++ ((L0.drop 500).take 100))))) := rfl
  rw [h]
  simp only [List.all_append, Bool.and_eq_true]
  exact ⟨K0_0, K0_1, K0_2, K0_3, K0_4, K0_5⟩
theorem K1 : L1.all (chkE 1) = true := by decide +kernel
theorem K2 : L2.all (chkE 2) = true := by decide +kernel
theorem K3 : L3.all (chkE 3) = true := by decide +kernel
theorem K4 : L4.all (chkE 4) = true := by decide +kernel
theorem K5 : L5.all (chkE 5) = true := by decide +kernel
theorem K6 : L6.all (chkE 6) = true := by decide +kernel
theorem K7 : L7.all (chkE 7) = true := by decide +kernel
theorem K8 : L8.all (chkE 8) = true := by decide +kernel
theorem K9 : L9.all (chkE 9) = true := by decide +kernel
theorem K10 : L10.all (chkE 10) = true := by decide +kernel
theorem K11 : L11.all (chkE 11) = true := by decide +kernel
theorem K12 : L12.all (chkE 12) = true := by decide +kernel
theorem K13 : L13.all (chkE 13) = true := by decide +kernel
theorem K14 : L14.all (chkE 14) = true := by decide +kernel
theorem K15 : L15.all (chkE 15) = true := by decide +kernel
theorem K16 : L16.all (chkE 16) = true := by decide +kernel
theorem K17 : L17.all (chkE 17) = true := by decide +kernel
theorem K18 : L18.all (chkE 18) = true := by decide +kernel
theorem K19 : L19.all (chkE 19) = true := by decide +kernel
theorem K20 : L20.all (chkE 20) = true := by decide +kernel
theorem K21 : L21.all (chkE 21) = true := by decide +kernel
theorem K22 : L22.all (chkE 22) = true := by decide +kernel
theorem K23 : L23.all (chkE 23) = true := by decide +kernel
theorem K24 : L24.all (chkE 24) = true := by decide +kernel
theorem K25 : L25.all (chkE 25) = true := by decide +kernel
theorem K26 : L26.all (chkE 26) = true := by decide +kernel
theorem K27 : L27.all (chkE 27) = true := by decide +kernel
theorem K28 : L28.all (chkE 28) = true := by decide +kernel
theorem K29 : L29.all (chkE 29) = true := by decide +kernel
theorem K30 : L30.all (chkE 30) = true := by decide +kernel
theorem K31 : L31.all (chkE 31) = true := by decide +kernel
theorem K32 : L32.all (chkE 32) = true := by decide +kernel
theorem K33 : L33.all (chkE 33) = true := by decide +kernel
theorem K34 : L34.all (chkE 34) = true := by decide +kernel
theorem K35 : L35.all (chkE 35) = true := by decide +kernel
theorem K36 : L36.all (chkE 36) = true := by decide +kernel
theorem K37 : L37.all (chkE 37) = true := by decide +kernel
theorem K38 : L38.all (chkE 38) = true := by decide +kernel
theorem K39 : L39.all (chkE 39) = true := by decide +kernel
theorem K40 : L40.all (chkE 40) = true := by decide +kernel
theorem K41 : L41.all (chkE 41) = true := by decide +kernel
theorem K42 : L42.all (chkE 42) = true := by decide +kernel
theorem K43 : L43.all (chkE 43) = true := by decide +kernel
theorem K44_0 : (L44.take 100).all (chkE 44) = true := by decide +kernel
theorem K44_1 : ((L44.drop 100).take 100).all (chkE 44) = true := by decide +kernel
set_option maxRecDepth 100000 in
theorem K44 : L44.all (chkE 44) = true := by
  have h : L44 = L44.take 100 ++ ((L44.drop 100).take 100) := rfl
  rw [h]
  simp only [List.all_append, Bool.and_eq_true]
  exact ⟨K44_0, K44_1⟩
theorem K45_0 : (L45.take 100).all (chkE 45) = true := by decide +kernel
theorem K45_1 : ((L45.drop 100).take 100).all (chkE 45) = true := by decide +kernel
set_option maxRecDepth 100000 in
theorem K45 : L45.all (chkE 45) = true := by
  have h : L45 = L45.take 100 ++ ((L45.drop 100).take 100) := rfl
  rw [h]
  simp only [List.all_append, Bool.and_eq_true]
  exact ⟨K45_0, K45_1⟩
theorem K46 : L46.all (chkE 46) = true := by decide +kernel
theorem K47 : L47.all (chkE 47) = true := by decide +kernel
theorem K48 : L48.all (chkE 48) = true := by decide +kernel
theorem K49 : L49.all (chkE 49) = true := by decide +kernel
theorem K50 : L50.all (chkE 50) = true := by decide +kernel
theorem K51 : L51.all (chkE 51) = true := by decide +kernel
theorem K52 : L52.all (chkE 52) = true := by decide +kernel
theorem K53 : L53.all (chkE 53) = true := by decide +kernel
theorem K54 : L54.all (chkE 54) = true := by decide +kernel
theorem K55 : L55.all (chkE 55) = true := by decide +kernel
theorem K56 : L56.all (chkE 56) = true := by decide +kernel
theorem K57 : L57.all (chkE 57) = true := by decide +kernel
theorem K58 : L58.all (chkE 58) = true := by decide +kernel
theorem K59 : L59.all (chkE 59) = true := by decide +kernel
theorem K60 : L60.all (chkE 60) = true := by decide +kernel
theorem K61 : L61.all (chkE 61) = true := by decide +kernel
theorem K62 : L62.all (chkE 62) = true := by decide +kernel
theorem K63 : L63.all (chkE 63) = true := by decide +kernel
theorem K64_0 : (L64.take 100).all (chkE 64) = true := by decide +kernel
theorem K64_1 : ((L64.drop 100).take 100).all (chkE 64) = true := by decide +kernel
set_option maxRecDepth 100000 in
theorem K64 : L64.all (chkE 64) = true := by
  have h : L64 = L64.take 100 ++ ((L64.drop 100).take 100) := rfl
  rw [h]
  simp only [List.all_append, Bool.and_eq_true]
  exact ⟨K64_0, K64_1⟩
theorem K65 : L65.all (chkE 65) = true := by decide +kernel
theorem K66 : L66.all (chkE 66) = true := by decide +kernel
theorem K67 : L67.all (chkE 67) = true := by decide +kernel
theorem K68 : L68.all (chkE 68) = true := by decide +kernel
theorem K69 : L69.all (chkE 69) = true := by decide +kernel
theorem K70 : L70.all (chkE 70) = true := by decide +kernel
theorem K71 : L71.all (chkE 71) = true := by decide +kernel
theorem K72 : L72.all (chkE 72) = true := by decide +kernel
theorem K73 : L73.all (chkE 73) = true := by decide +kernel
theorem K74 : L74.all (chkE 74) = true := by decide +kernel
theorem K75 : L75.all (chkE 75) = true := by decide +kernel
theorem K76 : L76.all (chkE 76) = true := by decide +kernel
theorem K77 : L77.all (chkE 77) = true := by decide +kernel
theorem K78 : L78.all (chkE 78) = true := by decide +kernel
theorem K79 : L79.all (chkE 79) = true := by decide +kernel
theorem K80 : L80.all (chkE 80) = true := by decide +kernel
theorem K81 : L81.all (chkE 81) = true := by decide +kernel
theorem K82 : L82.all (chkE 82) = true := by decide +kernel
theorem K83 : L83.all (chkE 83) = true := by decide +kernel
theorem K84 : L84.all (chkE 84) = true := by decide +kernel
theorem K85_0 : (L85.take 100).all (chkE 85) = true := by decide +kernel
theorem K85_1 : ((L85.drop 100).take 100).all (chkE 85) = true := by decide +kernel
set_option maxRecDepth 100000 in
theorem K85 : L85.all (chkE 85) = true := by
  have h : L85 = L85.take 100 ++ ((L85.drop 100).take 100) := rfl
  rw [h]
  simp only [List.all_append, Bool.and_eq_true]
  exact ⟨K85_0, K85_1⟩
theorem K86 : L86.all (chkE 86) = true := by decide +kernel
theorem K87 : L87.all (chkE 87) = true := by decide +kernel
theorem K88 : L88.all (chkE 88) = true := by decide +kernel
theorem K89 : L89.all (chkE 89) = true := by decide +kernel
theorem K90 : L90.all (chkE 90) = true := by decide +kernel
theorem K91 : L91.all (chkE 91) = true := by decide +kernel
theorem K92 : L92.all (chkE 92) = true := by decide +kernel
theorem K93 : L93.all (chkE 93) = true := by decide +kernel
theorem K94_0 : (L94.take 100).all (chkE 94) = true := by decide +kernel
theorem K94_1 : ((L94.drop 100).take 100).all (chkE 94) = true := by decide +kernel
set_option maxRecDepth 100000 in
theorem K94 : L94.all (chkE 94) = true := by
  have h : L94 = L94.take 100 ++ ((L94.drop 100).take 100) := rfl
  rw [h]
  simp only [List.all_append, Bool.and_eq_true]
  exact ⟨K94_0, K94_1⟩
theorem K95 : L95.all (chkE 95) = true := by decide +kernel
theorem K96 : L96.all (chkE 96) = true := by decide +kernel
theorem K97 : L97.all (chkE 97) = true := by decide +kernel
theorem K98 : L98.all (chkE 98) = true := by decide +kernel
theorem K99_0 : (L99.take 100).all (chkE 99) = true := by decide +kernel
theorem K99_1 : ((L99.drop 100).take 100).all (chkE 99) = true := by decide +kernel
set_option maxRecDepth 100000 in
theorem K99 : L99.all (chkE 99) = true := by
  have h : L99 = L99.take 100 ++ ((L99.drop 100).take 100) := rfl
  rw [h]
  simp only [List.all_append, Bool.and_eq_true]
  exact ⟨K99_0, K99_1⟩
theorem K100 : L100.all (chkE 100) = true := by decide +kernel
theorem K101 : L101.all (chkE 101) = true := by decide +kernel
theorem K102 : L102.all (chkE 102) = true := by decide +kernel
theorem K103 : L103.all (chkE 103) = true := by decide +kernel
theorem K104 : L104.all (chkE 104) = true := by decide +kernel
theorem K105 : L105.all (chkE 105) = true := by decide +kernel
theorem K106 : L106.all (chkE 106) = true := by decide +kernel
theorem K107 : L107.all (chkE 107) = true := by decide +kernel
theorem K108 : L108.all (chkE 108) = true := by decide +kernel
theorem K109_0 : (L109.take 100).all (chkE 109) = true := by decide +kernel
theorem K109_1 : ((L109.drop 100).take 100).all (chkE 109) = true := by decide +kernel
set_option maxRecDepth 100000 in
theorem K109 : L109.all (chkE 109) = true := by
  have h : L109 = L109.take 100 ++ ((L109.drop 100).take 100) := rfl
  rw [h]
  simp only [List.all_append, Bool.and_eq_true]
  exact ⟨K109_0, K109_1⟩
theorem K110_0 : (L110.take 100).all (chkE 110) = true := by decide +kernel
theorem K110_1 : ((L110.drop 100).take 100).all (chkE 110) = true := by decide +kernel
set_option maxRecDepth 100000 in
theorem K110 : L110.all (chkE 110) = true := by
  have h : L110 = L110.take 100 ++ ((L110.drop 100).take 100) := rfl
  rw [h]
  simp only [List.all_append, Bool.and_eq_true]
  exact ⟨K110_0, K110_1⟩
theorem K111_0 : (L111.take 100).all (chkE 111) = true := by decide +kernel
theorem K111_1 : ((L111.drop 100).take 100).all (chkE 111) = true := by decide +kernel
set_option maxRecDepth 100000 in
theorem K111 : L111.all (chkE 111) = true := by
  have h : L111 = L111.take 100 ++ ((L111.drop 100).take 100) := rfl
  rw [h]
  simp only [List.all_append, Bool.and_eq_true]
  exact ⟨K111_0, K111_1⟩
theorem K112 : L112.all (chkE 112) = true := by decide +kernel
theorem K113 : L113.all (chkE 113) = true := by decide +kernel
theorem K114 : L114.all (chkE 114) = true := by decide +kernel
theorem K115 : L115.all (chkE 115) = true := by decide +kernel
theorem K116 : L116.all (chkE 116) = true := by decide +kernel
theorem K117 : L117.all (chkE 117) = true := by decide +kernel
theorem K118_0 : (L118.take 100).all (chkE 118) = true := by decide +kernel
theorem K118_1 : ((L118.drop 100).take 100).all (chkE 118) = true := by decide +kernel
set_option maxRecDepth 100000 in
theorem K118 : L118.all (chkE 118) = true := by
  have h : L118 = L118.take 100 ++ ((L118.drop 100).take 100) := rfl
  rw [h]
  simp only [List.all_append, Bool.and_eq_true]
  exact ⟨K118_0, K118_1⟩
theorem K119 : L119.all (chkE 119) = true := by decide +kernel
theorem K120 : L120.all (chkE 120) = true := by decide +kernel
theorem K121 : L121.all (chkE 121) = true := by decide +kernel
theorem K122 : L122.all (chkE 122) = true := by decide +kernel
theorem K123_0 : (L123.take 100).all (chkE 123) = true := by decide +kernel
theorem K123_1 : ((L123.drop 100).take 100).all (chkE 123) = true := by decide +kernel
set_option maxRecDepth 100000 in
theorem K123 : L123.all (chkE 123) = true := by
  have h : L123 = L123.take 100 ++ ((L123.drop 100).take 100) := rfl
  rw [h]
  simp only [List.all_append, Bool.and_eq_true]
  exact ⟨K123_0, K123_1⟩
theorem K124 : L124.all (chkE 124) = true := by decide +kernel
theorem K125 : L125.all (chkE 125) = true := by decide +kernel
theorem K126 : L126.all (chkE 126) = true := by decide +kernel
theorem K127 : L127.all (chkE 127) = true := by decide +kernel
theorem K128 : L128.all (chkE 128) = true := by decide +kernel
theorem K129 : L129.all (chkE 129) = true := by decide +kernel
theorem K130 : L130.all (chkE 130) = true := by decide +kernel
theorem K131 : L131.all (chkE 131) = true := by decide +kernel
theorem K132 : L132.all (chkE 132) = true := by decide +kernel
theorem K133 : L133.all (chkE 133) = true := by decide +kernel
theorem K134 : L134.all (chkE 134) = true := by decide +kernel
theorem K135 : L135.all (chkE 135) = true := by decide +kernel
theorem K136 : L136.all (chkE 136) = true := by decide +kernel
theorem K137 : L137.all (chkE 137) = true := by decide +kernel
theorem K138 : L138.all (chkE 138) = true := by decide +kernel
theorem K139 : L139.all (chkE 139) = true := by decide +kernel
theorem K140 : L140.all (chkE 140) = true := by decide +kernel
theorem K141 : L141.all (chkE 141) = true := by decide +kernel
theorem K142 : L142.all (chkE 142) = true := by decide +kernel
theorem K143 : L143.all (chkE 143) = true := by decide +kernel
theorem K144 : L144.all (chkE 144) = true := by decide +kernel
theorem K145 : L145.all (chkE 145) = true := by decide +kernel
theorem K146 : L146.all (chkE 146) = true := by decide +kernel
theorem K147 : L147.all (chkE 147) = true := by decide +kernel
theorem K148 : L148.all (chkE 148) = true := by decide +kernel
theorem K149 : L149.all (chkE 149) = true := by decide +kernel
theorem K150 : L150.all (chkE 150) = true := by decide +kernel
theorem K151 : L151.all (chkE 151) = true := by decide +kernel
theorem K152 : L152.all (chkE 152) = true := by decide +kernel
theorem K153 : L153.all (chkE 153) = true := by decide +kernel
theorem K154 : L154.all (chkE 154) = true := by decide +kernel
theorem K155 : L155.all (chkE 155) = true := by decide +kernel
theorem K156 : L156.all (chkE 156) = true := by decide +kernel
theorem K157 : L157.all (chkE 157) = true := by decide +kernel
theorem K158 : L158.all (chkE 158) = true := by decide +kernel
theorem K159 : L159.all (chkE 159) = true := by decide +kernel
theorem K160 : L160.all (chkE 160) = true := by decide +kernel
theorem K161 : L161.all (chkE 161) = true := by decide +kernel
theorem chk_all (mi pc : Nat) (e : EN) (h : cd mi pc = some e) : chkE mi (pc, e) = true := by
  have hl : ∀ (l : List (Nat × EN)) (mi : Nat), l.all (chkE mi) = true → lk pc l = some e → chkE mi (pc, e) = true := by
    intro l mi
    induction l with
    | nil => intro _ h; simp [lk] at h
    | cons a l ih =>
      intro ha hk
      simp only [List.all_cons, Bool.and_eq_true] at ha
      unfold lk at hk
      cases hb : Nat.beq a.1 pc with
      | true =>
        rw [hb] at hk
        cases hk
        have := Nat.eq_of_beq_eq_true hb
        rw [← this]
        exact ha.1
      | false =>
        rw [hb] at hk
        exact ih ha.2 hk
  have hm : ∀ (k : Nat) (l : List (Nat × EN)), PRG[k]? = some l → l.all (chkE k) = true := by
    intro k l hk
    match k, hk with
    | 0, hk => cases hk; exact K0
    | 1, hk => cases hk; exact K1
    | 2, hk => cases hk; exact K2
    | 3, hk => cases hk; exact K3
    | 4, hk => cases hk; exact K4
    | 5, hk => cases hk; exact K5
    | 6, hk => cases hk; exact K6
    | 7, hk => cases hk; exact K7
    | 8, hk => cases hk; exact K8
    | 9, hk => cases hk; exact K9
    | 10, hk => cases hk; exact K10
    | 11, hk => cases hk; exact K11
    | 12, hk => cases hk; exact K12
    | 13, hk => cases hk; exact K13
    | 14, hk => cases hk; exact K14
    | 15, hk => cases hk; exact K15
    | 16, hk => cases hk; exact K16
    | 17, hk => cases hk; exact K17
    | 18, hk => cases hk; exact K18
    | 19, hk => cases hk; exact K19
    | 20, hk => cases hk; exact K20
    | 21, hk => cases hk; exact K21
    | 22, hk => cases hk; exact K22
    | 23, hk => cases hk; exact K23
    | 24, hk => cases hk; exact K24
    | 25, hk => cases hk; exact K25
    | 26, hk => cases hk; exact K26
    | 27, hk => cases hk; exact K27
    | 28, hk => cases hk; exact K28
    | 29, hk => cases hk; exact K29
    | 30, hk => cases hk; exact K30
    | 31, hk => cases hk; exact K31
    | 32, hk => cases hk; exact K32
    | 33, hk => cases hk; exact K33
    | 34, hk => cases hk; exact K34
    | 35, hk => cases hk; exact K35
    | 36, hk => cases hk; exact K36
    | 37, hk => cases hk; exact K37
    | 38, hk => cases hk; exact K38
    | 39, hk => cases hk; exact K39
    | 40, hk => cases hk; exact K40
    | 41, hk => cases hk; exact K41
    | 42, hk => cases hk; exact K42
    | 43, hk => cases hk; exact K43
    | 44, hk => cases hk; exact K44
    | 45, hk => cases hk; exact K45
    | 46, hk => cases hk; exact K46
    | 47, hk => cases hk; exact K47
    | 48, hk => cases hk; exact K48
    | 49, hk => cases hk; exact K49
    | 50, hk => cases hk; exact K50
    | 51, hk => cases hk; exact K51
    | 52, hk => cases hk; exact K52
    | 53, hk => cases hk; exact K53
    | 54, hk => cases hk; exact K54
    | 55, hk => cases hk; exact K55
    | 56, hk => cases hk; exact K56
    | 57, hk => cases hk; exact K57
    | 58, hk => cases hk; exact K58
    | 59, hk => cases hk; exact K59
    | 60, hk => cases hk; exact K60
    | 61, hk => cases hk; exact K61
    | 62, hk => cases hk; exact K62
    | 63, hk => cases hk; exact K63
    | 64, hk => cases hk; exact K64
    | 65, hk => cases hk; exact K65
    | 66, hk => cases hk; exact K66
    | 67, hk => cases hk; exact K67
    | 68, hk => cases hk; exact K68
    | 69, hk => cases hk; exact K69
    | 70, hk => cases hk; exact K70
    | 71, hk => cases hk; exact K71
    | 72, hk => cases hk; exact K72
    | 73, hk => cases hk; exact K73
    | 74, hk => cases hk; exact K74
    | 75, hk => cases hk; exact K75
    | 76, hk => cases hk; exact K76
    | 77, hk => cases hk; exact K77
    | 78, hk => cases hk; exact K78
    | 79, hk => cases hk; exact K79
    | 80, hk => cases hk; exact K80
    | 81, hk => cases hk; exact K81
    | 82, hk => cases hk; exact K82
    | 83, hk => cases hk; exact K83
    | 84, hk => cases hk; exact K84
    | 85, hk => cases hk; exact K85
    | 86, hk => cases hk; exact K86
    | 87, hk => cases hk; exact K87
    | 88, hk => cases hk; exact K88
    | 89, hk => cases hk; exact K89
    | 90, hk => cases hk; exact K90
    | 91, hk => cases hk; exact K91
    | 92, hk => cases hk; exact K92
    | 93, hk => cases hk; exact K93
    | 94, hk => cases hk; exact K94
    | 95, hk => cases hk; exact K95
    | 96, hk => cases hk; exact K96
    | 97, hk => cases hk; exact K97
    | 98, hk => cases hk; exact K98
    | 99, hk => cases hk; exact K99
    | 100, hk => cases hk; exact K100
    | 101, hk => cases hk; exact K101
    | 102, hk => cases hk; exact K102
    | 103, hk => cases hk; exact K103
    | 104, hk => cases hk; exact K104
    | 105, hk => cases hk; exact K105
    | 106, hk => cases hk; exact K106
    | 107, hk => cases hk; exact K107
    | 108, hk => cases hk; exact K108
    | 109, hk => cases hk; exact K109
    | 110, hk => cases hk; exact K110
    | 111, hk => cases hk; exact K111
    | 112, hk => cases hk; exact K112
    | 113, hk => cases hk; exact K113
    | 114, hk => cases hk; exact K114
    | 115, hk => cases hk; exact K115
    | 116, hk => cases hk; exact K116
    | 117, hk => cases hk; exact K117
    | 118, hk => cases hk; exact K118
    | 119, hk => cases hk; exact K119
    | 120, hk => cases hk; exact K120
    | 121, hk => cases hk; exact K121
    | 122, hk => cases hk; exact K122
    | 123, hk => cases hk; exact K123
    | 124, hk => cases hk; exact K124
    | 125, hk => cases hk; exact K125
    | 126, hk => cases hk; exact K126
    | 127, hk => cases hk; exact K127
    | 128, hk => cases hk; exact K128
    | 129, hk => cases hk; exact K129
    | 130, hk => cases hk; exact K130
    | 131, hk => cases hk; exact K131
    | 132, hk => cases hk; exact K132
    | 133, hk => cases hk; exact K133
    | 134, hk => cases hk; exact K134
    | 135, hk => cases hk; exact K135
    | 136, hk => cases hk; exact K136
    | 137, hk => cases hk; exact K137
    | 138, hk => cases hk; exact K138
    | 139, hk => cases hk; exact K139
    | 140, hk => cases hk; exact K140
    | 141, hk => cases hk; exact K141
    | 142, hk => cases hk; exact K142
    | 143, hk => cases hk; exact K143
    | 144, hk => cases hk; exact K144
    | 145, hk => cases hk; exact K145
    | 146, hk => cases hk; exact K146
    | 147, hk => cases hk; exact K147
    | 148, hk => cases hk; exact K148
    | 149, hk => cases hk; exact K149
    | 150, hk => cases hk; exact K150
    | 151, hk => cases hk; exact K151
    | 152, hk => cases hk; exact K152
    | 153, hk => cases hk; exact K153
    | 154, hk => cases hk; exact K154
    | 155, hk => cases hk; exact K155
    | 156, hk => cases hk; exact K156
    | 157, hk => cases hk; exact K157
    | 158, hk => cases hk; exact K158
    | 159, hk => cases hk; exact K159
    | 160, hk => cases hk; exact K160
    | 161, hk => cases hk; exact K161
    | k + 162, hk => exact absurd hk (by rw [List.getElem?_eq_none (show PRG.length ≤ k + 162 from Nat.le_add_left _ _)]; exact fun h => by cases h)
  unfold cd at h
  cases hp : PRG[mi]? with
  | none => rw [hp] at h; simp at h
  | some l => rw [hp] at h; exact hl l mi (hm mi l hp) h
