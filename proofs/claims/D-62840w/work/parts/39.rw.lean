/-! rows of items: what follows, what is last, how deep; one more row -/
section
variable {p ins : Int → Int} {N k g j op n y : Int} {f : Nat}
theorem fol_u (hk : k < N) (h1 : k < j) (h2 : j < N) (h3 : p j = g) (h4 : ∀ z, k < z → z < j → p z ≠ g) : fol p N k g = j := by
  rcases fol_s p N k g hk with ⟨a1, a2⟩ | ⟨a1, a2, a3, a4⟩
  · exact absurd h3 (a2 j h1 h2)
  · rcases Int.lt_trichotomy (fol p N k g) j with h | h | h
    · exact absurd a3 (h4 _ a1 h)
    · exact h
    · exact absurd h3 (a4 j h1 h)
theorem fol_none (hk : k < N) (h : ∀ z, k < z → z < N → p z ≠ g) : fol p N k g = -1 := by
  rcases fol_s p N k g hk with ⟨a1, a2⟩ | ⟨a1, a2, a3, a4⟩
  · exact a1
  · exact absurd a3 (h _ a1 a2)
theorem fol_lt (hk : -1 ≤ k ∧ k < N) : -1 ≤ fol p N k g ∧ fol p N k g < N := by
  rcases fol_s p N k g hk.2 with ⟨a1, a2⟩ | ⟨a1, a2, a3, a4⟩ <;> omega
theorem up_lt {v : Int} (h : y < N) : up ins N v y = ins y := up_n (by omega)
theorem fol_add (hk : -1 ≤ k ∧ k < N) : fol (up ins N op) (N + 1) k g = if g = op then (if fol ins N k g < 0 then N else fol ins N k g) else fol ins N k g := by
  rcases fol_s ins N k g hk.2 with ⟨a1, a2⟩ | ⟨a1, a2, a3, a4⟩
  · by_cases h : g = op
    · rw [if_pos h, if_pos (by omega)]
      exact fol_u (by omega) hk.2 (by omega) (by rw [up_s]; exact h.symm) (fun z h1 h2 => by rw [up_lt h2]; exact a2 z h1 h2)
    · rw [if_neg h, a1]
      refine fol_none (by omega) (fun z h1 h2 => ?_)
      by_cases e : z = N
      · rw [e, up_s]; exact fun e2 => h e2.symm
      · rw [up_lt (by omega)]; exact a2 z h1 (by omega)
  · have e : fol (up ins N op) (N + 1) k g = fol ins N k g := fol_u (by omega) a1 (by omega) (by rw [up_lt a2]; exact a3) (fun z h1 h2 => by rw [up_lt (by omega)]; exact a4 z h1 h2)
    rw [e, if_neg (show ¬ fol ins N k g < 0 by omega)]
    split <;> rfl
def lstA (ins : Int → Int) (g : Int) : Nat → Int
  | 0 => -1
  | n + 1 => if ins n = g then n else lstA ins g n
def lst (ins : Int → Int) (N g : Int) : Int := lstA ins g N.toNat
theorem lstA_s (ins : Int → Int) (g : Int) : ∀ n : Nat, (lstA ins g n = -1 ∧ ∀ z : Int, 0 ≤ z → z < n → ins z ≠ g) ∨ (0 ≤ lstA ins g n ∧ lstA ins g n < n ∧ ins (lstA ins g n) = g ∧ ∀ z : Int, lstA ins g n < z → z < n → ins z ≠ g)
  | 0 => Or.inl ⟨rfl, fun z h1 h2 => by omega⟩
  | n + 1 => by
    unfold lstA
    by_cases h : ins n = g
    · rw [if_pos h]
      exact Or.inr ⟨by omega, by omega, h, fun z h1 h2 => by omega⟩
    · rw [if_neg h]
      rcases lstA_s ins g n with ⟨h1, h2⟩ | ⟨h1, h2, h3, h4⟩
      · refine Or.inl ⟨h1, fun z h5 h6 => ?_⟩
        by_cases e : z = n
        · rw [e]; exact h
        · exact h2 z h5 (by omega)
      · refine Or.inr ⟨h1, by omega, h3, fun z h5 h6 => ?_⟩
        by_cases e : z = n
        · rw [e]; exact h
        · exact h4 z h5 (by omega)
theorem lst_s (hN : 0 ≤ N) : (lst ins N g = -1 ∧ ∀ z, 0 ≤ z → z < N → ins z ≠ g) ∨ (0 ≤ lst ins N g ∧ lst ins N g < N ∧ ins (lst ins N g) = g ∧ ∀ z, lst ins N g < z → z < N → ins z ≠ g) := by
  unfold lst
  rcases lstA_s ins g N.toNat with ⟨h1, h2⟩ | ⟨h1, h2, h3, h4⟩
  · exact Or.inl ⟨h1, fun z h5 h6 => h2 z h5 (by omega)⟩
  · exact Or.inr ⟨h1, by omega, h3, fun z h5 h6 => h4 z h5 (by omega)⟩
theorem lst_u (hN : 0 ≤ N) (h1 : 0 ≤ j) (h2 : j < N) (h3 : ins j = g) (h4 : ∀ z, j < z → z < N → ins z ≠ g) : lst ins N g = j := by
  rcases lst_s (ins := ins) (g := g) hN with ⟨a1, a2⟩ | ⟨a1, a2, a3, a4⟩
  · exact absurd h3 (a2 j h1 h2)
  · rcases Int.lt_trichotomy (lst ins N g) j with h | h | h
    · exact absurd h3 (a4 j h h2)
    · exact h
    · exact absurd a3 (h4 _ h a2)
theorem lst_none (hN : 0 ≤ N) (h : ∀ z, 0 ≤ z → z < N → ins z ≠ g) : lst ins N g = -1 := by
  rcases lst_s (ins := ins) (g := g) hN with ⟨a1, a2⟩ | ⟨a1, a2, a3, a4⟩
  · exact a1
  · exact absurd a3 (h _ a1 a2)
theorem lst_add (hN : 0 ≤ N) : lst (up ins N op) (N + 1) g = if g = op then N else lst ins N g := by
  by_cases h : g = op
  · rw [if_pos h]
    exact lst_u (by omega) hN (by omega) (by rw [up_s]; exact h.symm) (fun z h1 h2 => by omega)
  · rw [if_neg h]
    rcases lst_s (ins := ins) (g := g) hN with ⟨a1, a2⟩ | ⟨a1, a2, a3, a4⟩
    · rw [a1]
      refine lst_none (by omega) (fun z h1 h2 => ?_)
      by_cases e : z = N
      · rw [e, up_s]; exact fun e2 => h e2.symm
      · rw [up_lt (by omega)]; exact a2 z h1 (by omega)
    · refine lst_u (by omega) a1 (by omega) (by rw [up_lt a2]; exact a3) (fun z h1 h2 => ?_)
      by_cases e : z = N
      · rw [e, up_s]; exact fun e2 => h e2.symm
      · rw [up_lt (by omega)]; exact a4 z h1 (by omega)
theorem fol_lst (hN : 0 ≤ N) : (fol ins N (-1) g < 0 ↔ lst ins N g < 0) ∧ (∀ k, 0 ≤ k → k < N → ins k = g → (fol ins N k g < 0 ↔ k = lst ins N g)) := by
  refine ⟨?_, fun k h1 h2 h3 => ?_⟩
  · by_cases h0 : N = 0
    · subst h0
      exact ⟨fun _ => show (-1 : Int) < 0 by decide, fun _ => show (-1 : Int) < 0 by decide⟩
    · rcases lst_s (ins := ins) (g := g) hN with ⟨a1, a2⟩ | ⟨a1, a2, a3, a4⟩
      · rw [a1, fol_none (by omega) (fun z h1 h2 => a2 z (by omega) h2)]
      · rcases fol_s ins N (-1) g (by omega) with ⟨b1, b2⟩ | ⟨b1, b2, b3, b4⟩
        · exact absurd a3 (b2 _ (by omega) a2)
        · omega
  · rcases lst_s (ins := ins) (g := g) hN with ⟨a1, a2⟩ | ⟨a1, a2, a3, a4⟩
    · exact absurd h3 (a2 k h1 h2)
    · rcases fol_s ins N k g h2 with ⟨b1, b2⟩ | ⟨b1, b2, b3, b4⟩
      · constructor
        · intro _
          rcases Int.lt_trichotomy k (lst ins N g) with h | h | h
          · exact absurd a3 (b2 _ h a2)
          · exact h
          · exact absurd h3 (a4 k h h2)
        · intro _; omega
      · constructor
        · intro _; omega
        · intro e
          subst e
          exact absurd b3 (a4 _ b1 b2)
theorem dpA_n : ∀ (f : Nat) (n g : Int), dpA p f n g = n + dpA p f 0 g
  | 0, n, g => by simp [dpA]
  | f + 1, n, g => by
    rw [dpA_c, dpA_c]
    split
    · omega
    · rw [dpA_n f (n + 1), dpA_n f (0 + 1)]; omega
theorem dpA_f (hp : ∀ y, 0 ≤ y → y < N → -1 ≤ p y ∧ p y < y) : ∀ (f : Nat) (n g : Int), g < N → g < f → dpA p (f + 1) n g = dpA p f n g
  | 0, n, g, h1, h2 => by rw [dpA_c, if_pos (by omega)]; rfl
  | f + 1, n, g, h1, h2 => by
    rw [dpA_c p (f + 1) n g, dpA_c p f n g]
    by_cases h : g < 0
    · rw [if_pos h, if_pos h]
    · rw [if_neg h, if_neg h]
      have := hp g (by omega) h1
      exact dpA_f hp f (n + 1) (p g) (by omega) (by omega)
theorem dpA_up (hp : ∀ y, 0 ≤ y → y < N → -1 ≤ p y ∧ p y < y) : ∀ (f : Nat) (n g : Int), g < N → dpA (up p N op) f n g = dpA p f n g
  | 0, n, g, h1 => rfl
  | f + 1, n, g, h1 => by
    rw [dpA_c, dpA_c]
    by_cases h : g < 0
    · rw [if_pos h, if_pos h]
    · rw [if_neg h, if_neg h, up_lt h1]
      have := hp g (by omega) h1
      exact dpA_up hp f (n + 1) (p g) (by omega)
theorem dpA_pos (h : g < 0) : dpA p (f + 1) n g = n := by rw [dpA_c, if_pos h]
theorem dpA_neg (h : ¬ g < 0) : dpA p (f + 1) 0 g = 1 + dpA p f 0 (p g) := by rw [dpA_c, if_neg h, dpA_n]; omega
theorem dpA_ge : ∀ (f : Nat) (g : Int), 0 ≤ dpA p f 0 g
  | 0, g => Int.le_refl 0
  | f + 1, g => by
    by_cases h : g < 0
    · rw [dpA_pos h]; exact Int.le_refl 0
    · rw [dpA_neg h]; have := dpA_ge f (p g); omega
end
