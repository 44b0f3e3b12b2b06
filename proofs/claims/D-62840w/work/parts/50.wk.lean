/-! where one stands in a table: the model's walk as a function on rows -/
abbrev WS : Type := Int × Int × Int × (Int → Int) × (Int → Int)
/-- the heap with the model's walk at u -/
def putW (x : HP) (u : WS) : HP := stF (stF (stI (stI (stI x 134 43 u.1) 134 44 u.2.1) 134 45 u.2.2.1) 160 u.2.2.2.1) 161 u.2.2.2.2
section
variable {x : HP} {u : WS} {s hd dp j v k : Int} {gA gH : Int → Int} {q : Nat}
theorem pw_I : hI (putW x u) q k = if q = 161 then u.2.2.2.2 k else if q = 160 then u.2.2.2.1 k else if q = 134 ∧ k = 45 then u.2.2.1 else if q = 134 ∧ k = 44 then u.2.1 else if q = 134 ∧ k = 43 then u.1 else hI x q k := by
  unfold putW
  by_cases h1 : q = 161
  · subst h1; rw [hI_stF_s, if_pos rfl]
  · rw [hI_stF_n h1, if_neg h1]
    by_cases h2 : q = 160
    · subst h2; rw [hI_stF_s, if_pos rfl]
    · rw [hI_stF_n h2, if_neg h2, hI_st, hI_st, hI_st]
theorem pw_K : hK (putW x u) = hK x := rfl
theorem pw_R : hR (putW x u) = hR x := rfl
theorem pw_43 : hI (putW x u) 134 43 = u.1 := by rw [pw_I]; rfl
theorem pw_44 : hI (putW x u) 134 44 = u.2.1 := by rw [pw_I]; rfl
theorem pw_45 : hI (putW x u) 134 45 = u.2.2.1 := by rw [pw_I]; rfl
theorem pw_160 : hI (putW x u) 160 = u.2.2.2.1 := funext fun k => by rw [pw_I]; rfl
theorem pw_161 : hI (putW x u) 161 = u.2.2.2.2 := funext fun k => by rw [pw_I]; rfl
theorem pw_o (h1 : ¬ q = 161) (h2 : ¬ q = 160) (h3 : ¬ q = 134) : hI (putW x u) q = hI x q := funext fun k => by rw [pw_I, if_neg h1, if_neg h2, if_neg (fun h => h3 h.1), if_neg (fun h => h3 h.1), if_neg (fun h => h3 h.1)]
theorem hp_ext {a b : HP} (h1 : a.1 = b.1) (h2 : hK a = hK b) (h3 : ∀ q k, hI a q k = hI b q k) (h4 : hR a = hR b) : a = b := Prod.ext h1 (Prod.ext h2 (Prod.ext (funext fun q => funext fun k => h3 q k) h4))
theorem sw_43 : stI (putW x u) 134 43 s = putW x (s, u.2) := hp_ext rfl rfl (fun q k => by rw [hI_st, pw_I, pw_I]; grind) rfl
theorem sw_44 : stI (putW x u) 134 44 hd = putW x (u.1, hd, u.2.2) := hp_ext rfl rfl (fun q k => by rw [hI_st, pw_I, pw_I]; grind) rfl
theorem sw_45 : stI (putW x u) 134 45 dp = putW x (u.1, u.2.1, dp, u.2.2.2) := hp_ext rfl rfl (fun q k => by rw [hI_st, pw_I, pw_I]; grind) rfl
theorem sw_160 : stI (putW x u) 160 j v = putW x (u.1, u.2.1, u.2.2.1, up u.2.2.2.1 j v, u.2.2.2.2) := hp_ext rfl rfl (fun q k => by rw [hI_st, pw_I, pw_I]; unfold up; grind) rfl
theorem sw_161 : stI (putW x u) 161 j v = putW x (u.1, u.2.1, u.2.2.1, u.2.2.2.1, up u.2.2.2.2 j v) := hp_ext rfl rfl (fun q k => by rw [hI_st, pw_I, pw_I]; unfold up; grind) rfl
theorem putW_self : putW x (hI x 134 43, hI x 134 44, hI x 134 45, hI x 160, hI x 161) = x := hp_ext rfl rfl (fun q k => by rw [pw_I]; grind) rfl
end
/-- the tag that begins an item -/
def begT (w : RW) (s : Int) : Int := if 0 < rT w s then rT w s else if fol (rI w) (rN w) (-1) s < 0 then 0 else rT w (fol (rI w) (rN w) (-1) s)
/-- the list in which one stands -/
def grp (u : WS) : Int := if u.2.2.1 = 0 then -1 else u.2.2.2.1 (u.2.2.1 - 1)
def wstep (w : RW) (v : Int) : Nat → WS → Int × WS
  | 0, u => (4, u)
  | n + 1, u => if u.1 < 0 then (if u.2.2.1 = 0 then (4, u) else wstep w v n (u.2.2.2.1 (u.2.2.1 - 1), u.2.2.2.2 (u.2.2.1 - 1), u.2.2.1 - 1, u.2.2.2)) else
    if begT w u.1 = v then (if u.2.1 = rX w u.1 then (6, u) else if rT w u.1 = 0 then (0, (fol (rI w) (rN w) (fol (rI w) (rN w) (-1) u.1) u.1, 0, u.2.2.1 + 1, up u.2.2.2.1 u.2.2.1 u.1, up u.2.2.2.2 u.2.2.1 (u.2.1 + 1))) else (0, (u.1, u.2.1 + 1, u.2.2))) else
    if rM w u.1 ≠ 0 ∧ u.2.1 = 0 then (5, u) else wstep w v n (fol (rI w) (rN w) u.1 (grp u), 0, u.2.2)
def wlack (w : RW) : Nat → Bool → WS → Bool
  | 0, b, _ => b
  | n + 1, b, u => if u.1 < 0 then (if u.2.2.1 = 0 then b else wlack w n b (u.2.2.2.1 (u.2.2.1 - 1), u.2.2.2.2 (u.2.2.1 - 1), u.2.2.1 - 1, u.2.2.2)) else wlack w n (b || decide (rM w u.1 ≠ 0 ∧ u.2.1 = 0)) (fol (rI w) (rN w) u.1 (grp u), 0, u.2.2)
/-- where one can stand -/
def wsOk (w : RW) (u : WS) : Prop := (-1 ≤ u.1 ∧ u.1 < rN w) ∧ (0 ≤ u.2.2.1 ∧ u.2.2.1 ≤ 3) ∧ (∀ j, 0 ≤ j → j < u.2.2.1 → (0 ≤ u.2.2.2.1 j ∧ u.2.2.2.1 j < rN w) ∧ rT w (u.2.2.2.1 j) = 0 ∧ (rI w (u.2.2.2.1 j) = if j = 0 then -1 else u.2.2.2.1 (j - 1)) ∧ 0 ≤ u.2.2.2.2 j ∧ u.2.2.2.2 j ≤ rX w (u.2.2.2.1 j)) ∧ (0 ≤ u.1 → rI w u.1 = grp u ∧ u.2.1 ≤ rX w u.1) ∧ 0 ≤ u.2.1 ∧ u.2.1 ≤ 99
