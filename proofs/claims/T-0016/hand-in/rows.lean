section
/-! ===== the mathematics: the shifted array, the queue's invariant, a pigeonhole count ===== -/
/-- the array a with the cells lo + 1 .. j - 1 moved one place down -/
def rr_sh (a : Nat → Int32) (lo j : Nat) : Nat → Int32 := fun i => if lo ≤ i ∧ i + 1 < j then a (i + 1) else a i
theorem rr_sh0 (a : Nat → Int32) (lo : Nat) : rr_sh a lo (lo + 1) = a := by
  funext i
  dsimp only [rr_sh]
  rw [if_neg (by omega)]
theorem rr_sh1 (a : Nat → Int32) {lo j : Nat} (h : lo < j) : upd (rr_sh a lo j) (j - 1) (rr_sh a lo j j) = rr_sh a lo (j + 1) := by
  funext i
  dsimp only [upd, rr_sh]
  by_cases e : i = j - 1
  · have e1 : i + 1 = j := by omega
    have c1 : ¬ (lo ≤ j ∧ j + 1 < j) := by omega
    have c2 : lo ≤ i ∧ i + 1 < j + 1 := by omega
    rw [if_pos e, if_neg c1, if_pos c2, e1]
  · rw [if_neg e]
    by_cases g : lo ≤ i ∧ i + 1 < j
    · have c2 : lo ≤ i ∧ i + 1 < j + 1 := by omega
      rw [if_pos g, if_pos c2]
    · have c2 : ¬ (lo ≤ i ∧ i + 1 < j + 1) := by omega
      rw [if_neg g, if_neg c2]
theorem rr_m1 {n : Nat} (h : 0 < n) : nI n - 1 = nI (n - 1) := by
  obtain ⟨k, rfl⟩ : ∃ k, n = k + 1 := ⟨n - 1, by omega⟩
  rw [nI_pred]
  rfl
/-- c different numbers below p: c is at most p -/
theorem rr_pig : ∀ (p c : Nat) (f : Nat → Nat), (∀ i, i < c → f i < p) → (∀ i j, i < j → j < c → f i ≠ f j) → c ≤ p := by
  intro p
  induction p with
  | zero =>
    intro c f h _
    by_cases z : c = 0
    · omega
    · exact absurd (h 0 (by omega)) (Nat.not_lt_zero _)
  | succ p ih =>
    intro c f h hd
    by_cases z : c = 0
    · omega
    · have k : c - 1 ≤ p := by
        refine ih (c - 1) (fun i => if f i = p then f (c - 1) else f i) ?_ ?_
        · intro i hi
          have h1 := h i (by omega)
          have h2 := h (c - 1) (by omega)
          have h3 := hd i (c - 1) hi (by omega)
          by_cases e : f i = p
          · rw [if_pos e]
            omega
          · rw [if_neg e]
            omega
        · intro i j hij hj
          have h1 := hd i j hij (by omega)
          have h2 := hd i (c - 1) (by omega) (by omega)
          have h3 := hd j (c - 1) hj (by omega)
          by_cases e : f i = p
          · by_cases g : f j = p
            · exact absurd (e.trans g.symm) h1
            · rw [if_pos e, if_neg g]
              exact h3.symm
          · by_cases g : f j = p
            · rw [if_neg e, if_pos g]
              exact h2
            · rw [if_neg e, if_neg g]
              exact h1
      omega
/-- the first c cells hold different numbers below p -/
def rr_Q (p c : Nat) (a : Nat → Int32) : Prop := (∀ i, i < c → ∃ m : Nat, m < p ∧ a i = nI m) ∧ (∀ i j, i < j → j < c → a i ≠ a j)
theorem rr_le {p c : Nat} {a : Nat → Int32} (hp : p ≤ 64) (h : rr_Q p c a) : c ≤ p := by
  obtain ⟨hv, hd⟩ := h
  refine rr_pig p c (fun i => (a i).toNatClampNeg) ?_ ?_
  · intro i hi
    obtain ⟨m, hm, e⟩ := hv i hi
    show (a i).toNatClampNeg < p
    rw [e, nI_clamp (by omega)]
    exact hm
  · intro i j hij hj
    obtain ⟨m, hm, e⟩ := hv i (by omega)
    obtain ⟨q, hq, g⟩ := hv j hj
    have d := hd i j hij hj
    show (a i).toNatClampNeg ≠ (a j).toNatClampNeg
    rw [e, g] at d ⊢
    rw [nI_clamp (by omega), nI_clamp (by omega)]
    intro z
    exact d (by rw [z])
theorem rr_ne {p c : Nat} {a : Nat → Int32} (h : rr_Q p c a) {i j : Nat} (hi : i < c) (hj : j < c) (e : i ≠ j) : a i ≠ a j := by
  rcases Nat.lt_or_gt_of_ne e with g | g
  · exact h.2 i j g hj
  · exact (h.2 j i g hi).symm
theorem rr_Q0 (p : Nat) (a : Nat → Int32) : rr_Q p 0 a := And.intro (fun i h => absurd h (Nat.not_lt_zero i)) (fun _ j _ h => absurd h (Nat.not_lt_zero j))
/-- cells that are different cells of a kept array keep the invariant -/
theorem rr_Qmap {p c c' : Nat} {a b : Nat → Int32} (s : Nat → Nat) (h : rr_Q p c a) (h1 : ∀ i, i < c' → s i < c ∧ b i = a (s i)) (h2 : ∀ i j, i < j → j < c' → s i ≠ s j) : rr_Q p c' b := by
  refine And.intro ?_ ?_
  · intro i hi
    rw [(h1 i hi).2]
    exact h.1 _ (h1 i hi).1
  · intro i j hij hj
    have hi : i < c' := by omega
    rw [(h1 i hi).2, (h1 j hj).2]
    exact rr_ne h (h1 i hi).1 (h1 j hj).1 (h2 i j hij hj)
theorem rr_Qadd {p c m : Nat} {a : Nat → Int32} (h : rr_Q p c a) (hm : m < p) (hn : ∀ i, i < c → a i ≠ nI m) : rr_Q p (c + 1) (upd a c (nI m)) := by
  refine And.intro ?_ ?_
  · intro i hi
    dsimp only [upd]
    by_cases e : i = c
    · rw [if_pos e]
      exact ⟨m, hm, rfl⟩
    · rw [if_neg e]
      exact h.1 i (by omega)
  · intro i j hij hj
    dsimp only [upd]
    have ei : ¬ i = c := by omega
    rw [if_neg ei]
    by_cases e : j = c
    · rw [if_pos e]
      exact hn i (by omega)
    · rw [if_neg e]
      exact h.2 i j hij (by omega)
theorem rr_Qnext {p c : Nat} {a : Nat → Int32} (h : rr_Q p c a) (h0 : 0 < c) : rr_Q p c (upd (rr_sh a 0 c) (c - 1) (a 0)) := by
  refine rr_Qmap (fun i => if i + 1 < c then i + 1 else 0) h ?_ ?_
  · intro i hi
    dsimp only [upd, rr_sh]
    by_cases e : i + 1 < c
    · have e1 : ¬ i = c - 1 := by omega
      have e2 : 0 ≤ i ∧ i + 1 < c := by omega
      rw [if_pos e, if_neg e1, if_pos e2]
      exact ⟨e, rfl⟩
    · have e1 : i = c - 1 := by omega
      rw [if_neg e, if_pos e1]
      exact ⟨h0, rfl⟩
  · intro i j hij hj
    have e1 : i + 1 < c := by omega
    rw [if_pos e1]
    by_cases e : j + 1 < c
    · rw [if_pos e]
      omega
    · rw [if_neg e]
      omega
theorem rr_Qrem {p c t : Nat} {a : Nat → Int32} (h : rr_Q p c a) (ht : t < c) : rr_Q p (c - 1) (rr_sh a t c) := by
  refine rr_Qmap (fun i => if t ≤ i then i + 1 else i) h ?_ ?_
  · intro i hi
    dsimp only [rr_sh]
    by_cases e : t ≤ i
    · have e2 : t ≤ i ∧ i + 1 < c := by omega
      rw [if_pos e, if_pos e2]
      exact ⟨e2.2, rfl⟩
    · have e2 : ¬ (t ≤ i ∧ i + 1 < c) := by omega
      rw [if_neg e, if_neg e2]
      exact ⟨by omega, rfl⟩
  · intro i j hij hj
    by_cases e : t ≤ i
    · have g : t ≤ j := by omega
      rw [if_pos e, if_pos g]
      omega
    · rw [if_neg e]
      by_cases g : t ≤ j
      · rw [if_pos g]
        omega
      · rw [if_neg g]
        omega
end
section
/-! ===== the loops, one by one, over a general post; the fuel: every n above the measure ===== -/
theorem rr_Xadd_f {post : Int32 → SX → Prop} {x fp : Int32} {c m : Nat} {a : Nat → Int32} (hc : c ≤ 64) (hm : m < c) (e : a m = x) (hn : ∀ i, i < c → i ≠ m → a i ≠ x) (K : post (-3) (fp, nI c, a)) : ∀ n j : Nat, j ≤ m → m < n + j → wX_add_17 post x fp (nI c) a n (nI j) := by
  intro n
  induction n with
  | zero =>
    intro j h1 h2
    omega
  | succ n ih =>
    intro j h1 h2
    refine br_f (nI_ge (by omega) (by omega)) (And.intro (vp_in_nI (by omega) (by omega)) ?_)
    rw [nI_clamp (by omega)]
    by_cases g : j = m
    · rw [g]
      exact br_t e K
    · exact br_f (hn j (by omega) g) (nm_r (nI_1 j) (ih (j + 1) (by omega) (by omega)))
theorem rr_Xadd_n {post : Int32 → SX → Prop} {x fp : Int32} {c : Nat} {a : Nat → Int32} (hc : c < 64) (hn : ∀ i, i < c → a i ≠ x) (K : post 0 (fp, nI (c + 1), upd a c x)) : ∀ n j : Nat, j ≤ c → c < n + j → wX_add_17 post x fp (nI c) a n (nI j) := by
  intro n
  induction n with
  | zero =>
    intro j h1 h2
    omega
  | succ n ih =>
    intro j h1 h2
    by_cases g : j = c
    · rw [g]
      exact br_t (nI_le (Nat.le_refl _) (by omega)) (And.intro (vp_in_nI (by omega) (by omega)) (nm_r (e' := upd a c x) (by rw [nI_clamp (by omega)]) (nm_r (nI_1 c) K)))
    · refine br_f (nI_ge (by omega) (by omega)) (And.intro (vp_in_nI (by omega) (by omega)) ?_)
      rw [nI_clamp (by omega)]
      exact br_f (hn j (by omega)) (nm_r (nI_1 j) (ih (j + 1) (by omega) (by omega)))
theorem rr_Yfind_f {post : Int32 → Prop} {x fp : Int32} {c m : Nat} {a : Nat → Int32} (hc : c ≤ 64) (hm : m < c) (e : a m = x) (hn : ∀ i, i < c → i ≠ m → a i ≠ x) (K : post (nI m)) : ∀ n j : Nat, j ≤ m → m < n + j → wY_find_2 post x fp (nI c) a n (nI j) := by
  intro n
  induction n with
  | zero =>
    intro j h1 h2
    omega
  | succ n ih =>
    intro j h1 h2
    refine br_f (nI_ge (by omega) (by omega)) (And.intro (vp_in_nI (by omega) (by omega)) ?_)
    rw [nI_clamp (by omega)]
    by_cases g : j = m
    · rw [g]
      exact br_t e K
    · exact br_f (hn j (by omega) g) (nm_r (nI_1 j) (ih (j + 1) (by omega) (by omega)))
theorem rr_Yfind_n {post : Int32 → Prop} {x fp : Int32} {c : Nat} {a : Nat → Int32} (hc : c ≤ 64) (hn : ∀ i, i < c → a i ≠ x) (K : post (-1)) : ∀ n j : Nat, j ≤ c → c < n + j → wY_find_2 post x fp (nI c) a n (nI j) := by
  intro n
  induction n with
  | zero =>
    intro j h1 h2
    omega
  | succ n ih =>
    intro j h1 h2
    by_cases g : j = c
    · rw [g]
      exact br_t (nI_le (Nat.le_refl _) (by omega)) K
    · refine br_f (nI_ge (by omega) (by omega)) (And.intro (vp_in_nI (by omega) (by omega)) ?_)
      rw [nI_clamp (by omega)]
      exact br_f (hn j (by omega)) (nm_r (nI_1 j) (ih (j + 1) (by omega) (by omega)))
theorem rr_Xnext {post : Int32 → SX → Prop} {x fp : Int32} {c : Nat} {a : Nat → Int32} (hc : c ≤ 64) (K : post x (fp, nI c, upd (rr_sh a 0 c) (c - 1) x)) : ∀ n j : Nat, 0 < j → j ≤ c → c < n + j → wX_next_18 post x fp (nI c) n (nI j) (rr_sh a 0 j) := by
  intro n
  induction n with
  | zero =>
    intro j h0 h1 h2
    omega
  | succ n ih =>
    intro j h0 h1 h2
    by_cases g : j = c
    · rw [g]
      refine br_t (nI_le (Nat.le_refl _) (by omega)) ?_
      rw [rr_m1 (by omega)]
      exact And.intro (vp_in_nI (by omega) (by omega)) (nm_r (e' := upd (rr_sh a 0 c) (c - 1) x) (by rw [nI_clamp (by omega)]) K)
    · refine br_f (nI_ge (by omega) (by omega)) (And.intro (vp_in_nI (by omega) (by omega)) ?_)
      rw [rr_m1 h0]
      refine And.intro (vp_in_nI (by omega) (by omega)) (nm_r (e' := rr_sh a 0 (j + 1)) ?_ (nm_r (nI_1 j) (ih (j + 1) (by omega) (by omega) (by omega))))
      rw [nI_clamp (by omega), nI_clamp (by omega)]
      exact rr_sh1 a h0
theorem rr_Ynext {post : Int32 → SY → Prop} {x fp : Int32} {c : Nat} {a : Nat → Int32} (hc : c ≤ 64) (K : post x (fp, nI c, upd (rr_sh a 0 c) (c - 1) x)) : ∀ n j : Nat, 0 < j → j ≤ c → c < n + j → wY_next_18 post x fp (nI c) n (nI j) (rr_sh a 0 j) := by
  intro n
  induction n with
  | zero =>
    intro j h0 h1 h2
    omega
  | succ n ih =>
    intro j h0 h1 h2
    by_cases g : j = c
    · rw [g]
      refine br_t (nI_le (Nat.le_refl _) (by omega)) ?_
      rw [rr_m1 (by omega)]
      exact And.intro (vp_in_nI (by omega) (by omega)) (nm_r (e' := upd (rr_sh a 0 c) (c - 1) x) (by rw [nI_clamp (by omega)]) K)
    · refine br_f (nI_ge (by omega) (by omega)) (And.intro (vp_in_nI (by omega) (by omega)) ?_)
      rw [rr_m1 h0]
      refine And.intro (vp_in_nI (by omega) (by omega)) (nm_r (e' := rr_sh a 0 (j + 1)) ?_ (nm_r (nI_1 j) (ih (j + 1) (by omega) (by omega) (by omega))))
      rw [nI_clamp (by omega), nI_clamp (by omega)]
      exact rr_sh1 a h0
theorem rr_Xnext1 {post : Int32 → SX → Prop} {x fp : Int32} {c : Nat} {a : Nat → Int32} (hc : c ≤ 64) (h0 : 0 < c) (K : post x (fp, nI c, upd (rr_sh a 0 c) (c - 1) x)) : wX_next_18 post x fp (nI c) (c + 1) 1 a := by
  have h := rr_Xnext hc K (c + 1) 1 (by omega) (by omega) (by omega)
  have e : rr_sh a 0 1 = a := rr_sh0 a 0
  rw [e] at h
  exact h
theorem rr_Ynext1 {post : Int32 → SY → Prop} {x fp : Int32} {c : Nat} {a : Nat → Int32} (hc : c ≤ 64) (h0 : 0 < c) (K : post x (fp, nI c, upd (rr_sh a 0 c) (c - 1) x)) : wY_next_18 post x fp (nI c) (c + 1) 1 a := by
  have h := rr_Ynext hc K (c + 1) 1 (by omega) (by omega) (by omega)
  have e : rr_sh a 0 1 = a := rr_sh0 a 0
  rw [e] at h
  exact h
theorem rr_Xrem_s {post : Int32 → SX → Prop} {fp : Int32} {c lo : Nat} {a : Nat → Int32} (hc : c ≤ 64) (K : post 0 (fp, nI (c - 1), rr_sh a lo c)) : ∀ n j : Nat, lo < j → j ≤ c → c < n + j → wX_remove_55 post fp (nI c) n (nI j) (rr_sh a lo j) := by
  intro n
  induction n with
  | zero =>
    intro j h0 h1 h2
    omega
  | succ n ih =>
    intro j h0 h1 h2
    by_cases g : j = c
    · rw [g]
      exact br_t (nI_le (Nat.le_refl _) (by omega)) (nm_r (rr_m1 (by omega)) K)
    · refine br_f (nI_ge (by omega) (by omega)) (And.intro (vp_in_nI (by omega) (by omega)) ?_)
      rw [rr_m1 (by omega)]
      refine And.intro (vp_in_nI (by omega) (by omega)) (nm_r (e' := rr_sh a lo (j + 1)) ?_ (nm_r (nI_1 j) (ih (j + 1) (by omega) (by omega) (by omega))))
      rw [nI_clamp (by omega), nI_clamp (by omega)]
      exact rr_sh1 a h0
theorem rr_Xrem_s1 {post : Int32 → SX → Prop} {fp : Int32} {c lo : Nat} {a : Nat → Int32} (hc : c ≤ 64) (hl : lo < c) (K : post 0 (fp, nI (c - 1), rr_sh a lo c)) : wX_remove_55 post fp (nI c) (c + 1) (nI (lo + 1)) a := by
  have h := rr_Xrem_s hc K (c + 1) (lo + 1) (by omega) (by omega) (by omega)
  rw [rr_sh0] at h
  exact h
theorem rr_Yrem_s {post : Int32 → SY → Prop} {fp : Int32} {c lo : Nat} {a : Nat → Int32} (hc : c ≤ 64) (K : post 0 (fp, nI (c - 1), rr_sh a lo c)) : ∀ n j : Nat, lo ≤ j → j + 1 ≤ c → c < n + (j + 1) → wY_remove_27 post fp (nI c) n (nI j) (rr_sh a lo (j + 1)) := by
  intro n
  induction n with
  | zero =>
    intro j h0 h1 h2
    omega
  | succ n ih =>
    intro j h0 h1 h2
    by_cases g : j + 1 = c
    · rw [g]
      exact br_t (by rw [nI_1]; exact nI_le (by omega) (by omega)) (nm_r (rr_m1 (by omega)) K)
    · refine br_f (by rw [nI_1]; exact nI_ge (by omega) (by omega)) (And.intro (by rw [nI_1]; exact vp_in_nI (by omega) (by omega)) (And.intro (vp_in_nI (by omega) (by omega)) (nm_r (e' := rr_sh a lo (j + 1 + 1)) ?_ (nm_r (nI_1 j) (ih (j + 1) (by omega) (by omega) (by omega))))))
      rw [nI_1, nI_clamp (by omega), nI_clamp (by omega)]
      exact rr_sh1 a (j := j + 1) (by omega)
theorem rr_Yrem_s1 {post : Int32 → SY → Prop} {fp : Int32} {c lo : Nat} {a : Nat → Int32} (hc : c ≤ 64) (hl : lo < c) (K : post 0 (fp, nI (c - 1), rr_sh a lo c)) : wY_remove_27 post fp (nI c) (c + 1) (nI lo) a := by
  have h := rr_Yrem_s hc K (c + 1) lo (by omega) (by omega) (by omega)
  rw [rr_sh0] at h
  exact h
/-- what remove asks of X behind its search, t the place found (or -1) -/
def rr_E (post : Int32 → SX → Prop) (fp : Int32) (c : Nat) (a : Nat → Int32) (t : Int32) : Prop := (0 ≤ t → ∀ y : Int32, y = t + 1 → ∃ n55 : Nat, wX_remove_55 post fp (nI c) n55 y a) ∧ (¬ 0 ≤ t → post (-1) (fp, nI c, a))
theorem rr_Xrem_a {post : Int32 → SX → Prop} {x fp : Int32} {c : Nat} {a : Nat → Int32} (hc : c ≤ 64) {t : Int32} (K : rr_E post fp c a t) : ∀ n j : Nat, j ≤ c → c < n + j → (∀ i, j ≤ i → i < c → a i ≠ x) → wX_remove_19 post x fp (nI c) a n t (nI j) := by
  intro n
  induction n with
  | zero =>
    intro j h1 h2 _
    omega
  | succ n ih =>
    intro j h1 h2 hn
    by_cases g : j = c
    · rw [g]
      exact br_t (nI_le (Nat.le_refl _) (by omega)) K
    · refine br_f (nI_ge (by omega) (by omega)) (And.intro (vp_in_nI (by omega) (by omega)) ?_)
      rw [nI_clamp (by omega)]
      exact br_f (hn j (by omega) (by omega)) (nm_r (nI_1 j) (ih (j + 1) (by omega) (by omega) (fun i hi hi2 => hn i (by omega) hi2)))
theorem rr_Xrem_b {post : Int32 → SX → Prop} {x fp : Int32} {c m : Nat} {a : Nat → Int32} (hc : c ≤ 64) (hm : m < c) (e : a m = x) (hn : ∀ i, i < c → i ≠ m → a i ≠ x) (K : rr_E post fp c a (nI m)) {t : Int32} : ∀ n j : Nat, j ≤ m → c < n + j → wX_remove_19 post x fp (nI c) a n t (nI j) := by
  intro n
  induction n with
  | zero =>
    intro j h1 h2
    omega
  | succ n ih =>
    intro j h1 h2
    refine br_f (nI_ge (by omega) (by omega)) (And.intro (vp_in_nI (by omega) (by omega)) ?_)
    rw [nI_clamp (by omega)]
    by_cases g : j = m
    · rw [g]
      exact br_t e (nm_r (nI_1 m) (rr_Xrem_a hc K n (m + 1) (by omega) (by omega) (fun i hi hi2 => hn i hi2 (by omega))))
    · exact br_f (hn j (by omega) g) (nm_r (nI_1 j) (ih (j + 1) (by omega) (by omega)))
end
section
/-! ===== what is owed ===== -/
/-- the two objects are in one state: procs p at most 64, the first c cells different pids below p -/
def i_Rel (_ : Nat) (u : SX) (v : SY) : Prop := ∃ (p c : Nat) (a : Nat → Int32), u = (nI p, nI c, a) ∧ v = (nI p, nI c, a) ∧ p ≤ 64 ∧ rr_Q p c a
theorem rr_mk {k p c : Nat} {a : Nat → Int32} (hp : p ≤ 64) (hq : rr_Q p c a) : i_Rel k (nI p, nI c, a) (nI p, nI c, a) := Exists.intro p (Exists.intro c (Exists.intro a (And.intro rfl (And.intro rfl (And.intro hp hq)))))
theorem rr_init (p : Nat) (hp : p ≤ 64) : i_Rel 1 (nI p, 0, fun _ => 0) (nI p, 0, fun _ => 0) := rr_mk (c := 0) hp (rr_Q0 p _)
theorem i_up {k : Nat} {u : SX} {v : SY} (h : i_Rel k u v) : i_Rel (k + 2) u v := h
theorem i_vc0 (k0 : Int32) : wpX_init (fun u => wpY_init (fun v => i_Rel 1 u v) k0) k0 := by
  by_cases h0 : 0 ≤ k0
  · by_cases h1 : k0 ≤ 64
    · obtain ⟨j, hj, e⟩ := nI_of2 (x := k0) (M := 64) (n := 64) (by decide) (Int32.not_lt.mpr h0) h1
      subst e
      exact br_t h0 (br_t h1 (br_t h0 (br_t h1 (rr_init j hj))))
    · exact br_t h0 (br_f h1 (br_t h0 (br_f h1 (rr_init 64 (by decide)))))
  · exact br_f h0 (br_t (by decide) (br_f h0 (rr_init 0 (by decide))))
theorem i_vc_add {k : Nat} {u : SX} {v : SY} (I : i_Rel k u v) (hk : k + 2 ≤ 1025) (v1 : Int32) : wpX_add (fun r u' => wpY_add (fun r' v' => r' = r ∧ i_Rel (k + 2) u' v') v v1) u v1 := by
  obtain ⟨p, c, a, rfl, rfl, hp, hq⟩ := I
  have hc := rr_le hp hq
  by_cases h0 : v1 < 0
  · exact br_t h0 (br_t h0 (And.intro rfl (rr_mk hp hq)))
  · by_cases h1 : v1 < nI p
    · obtain ⟨m, hm, e⟩ := nI_of h0
      subst e
      have h2 : m < p := (nI_ltI hm (by omega)).mp h1
      by_cases g : ∃ t, t < c ∧ a t = nI m
      · obtain ⟨t, ht, et⟩ := g
        have hn : ∀ i, i < c → i ≠ t → a i ≠ nI m := fun i hi hit z => rr_ne hq hi ht hit (z.trans et.symm)
        refine br_f h0 (br_t h1 (Exists.intro (c + 1) ?_))
        refine rr_Xadd_f (by omega) ht et hn ?_ (c + 1) 0 (by omega) (by omega)
        refine br_f h0 (br_t h1 (Exists.intro (c + 1) ?_))
        refine rr_Yfind_f (by omega) ht et hn ?_ (c + 1) 0 (by omega) (by omega)
        exact br_f (nI_pos (by omega)) (And.intro rfl (rr_mk hp hq))
      · have hn : ∀ i, i < c → a i ≠ nI m := fun i hi z => g ⟨i, hi, z⟩
        have hq1 := rr_Qadd hq h2 hn
        have hc1 := rr_le hp hq1
        refine br_f h0 (br_t h1 (Exists.intro (c + 1) ?_))
        refine rr_Xadd_n (by omega) hn ?_ (c + 1) 0 (by omega) (by omega)
        refine br_f h0 (br_t h1 (Exists.intro (c + 1) ?_))
        refine rr_Yfind_n (by omega) hn ?_ (c + 1) 0 (by omega) (by omega)
        refine br_t (by decide) (And.intro (vp_in_nI (by omega) (by omega)) (nm_r (e' := upd a c (nI m)) ?_ (nm_r (nI_1 c) (And.intro rfl (rr_mk hp hq1)))))
        rw [nI_clamp (by omega)]
    · exact br_f h0 (br_f h1 (br_f h0 (br_f h1 (And.intro rfl (rr_mk hp hq)))))
theorem i_vc_next {k : Nat} {u : SX} {v : SY} (I : i_Rel k u v) (hk : k + 2 ≤ 1025) : wpX_next (fun r u' => wpY_next (fun r' v' => r' = r ∧ i_Rel (k + 2) u' v') v) u := by
  obtain ⟨p, c, a, rfl, rfl, hp, hq⟩ := I
  have hc := rr_le hp hq
  by_cases z : c = 0
  · subst z
    exact br_t nI_0 (br_t nI_0 (And.intro rfl (rr_mk hp hq)))
  · have hz : ¬ nI c = 0 := nI_ne0 (by omega) (by omega)
    refine br_f hz (nm_e (Exists.intro (c + 1) ?_))
    refine rr_Xnext1 (by omega) (by omega) ?_
    refine br_f hz (nm_e (Exists.intro (c + 1) ?_))
    refine rr_Ynext1 (by omega) (by omega) ?_
    exact And.intro rfl (rr_mk hp (rr_Qnext hq (by omega)))
theorem i_vc_remove {k : Nat} {u : SX} {v : SY} (I : i_Rel k u v) (hk : k + 2 ≤ 1025) (v1 : Int32) : wpX_remove (fun r u' => wpY_remove (fun r' v' => r' = r ∧ i_Rel (k + 2) u' v') v v1) u v1 := by
  obtain ⟨p, c, a, rfl, rfl, hp, hq⟩ := I
  have hc := rr_le hp hq
  by_cases h0 : v1 < 0
  · exact br_t h0 (br_t h0 (And.intro rfl (rr_mk hp hq)))
  · by_cases h1 : v1 < nI p
    · by_cases g : ∃ t, t < c ∧ a t = v1
      · obtain ⟨t, ht, et⟩ := g
        have hn : ∀ i, i < c → i ≠ t → a i ≠ v1 := fun i hi hit z => rr_ne hq hi ht hit (z.trans et.symm)
        refine br_f h0 (br_t h1 (Exists.intro (c + 1) ?_))
        refine rr_Xrem_b (by omega) ht et hn ?_ (c + 1) 0 (by omega) (by omega)
        refine br_t (nI_pos' (by omega)) (nm_r (nI_1 t) (Exists.intro (c + 1) ?_))
        refine rr_Xrem_s1 (by omega) ht ?_
        refine br_f h0 (br_t h1 (Exists.intro (c + 1) ?_))
        refine rr_Yfind_f (by omega) ht et hn ?_ (c + 1) 0 (by omega) (by omega)
        refine br_t (nI_pos' (by omega)) (Exists.intro (c + 1) ?_)
        refine rr_Yrem_s1 (by omega) ht ?_
        exact And.intro rfl (rr_mk hp (rr_Qrem hq ht))
      · have hn : ∀ i, i < c → a i ≠ v1 := fun i hi z => g ⟨i, hi, z⟩
        refine br_f h0 (br_t h1 (Exists.intro (c + 1) ?_))
        refine rr_Xrem_a (by omega) ?_ (c + 1) 0 (by omega) (by omega) (fun i _ hi => hn i hi)
        refine br_f (by decide) ?_
        refine br_f h0 (br_t h1 (Exists.intro (c + 1) ?_))
        refine rr_Yfind_n (by omega) hn ?_ (c + 1) 0 (by omega) (by omega)
        exact br_f (by decide) (And.intro rfl (rr_mk hp hq))
    · exact br_f h0 (br_f h1 (br_f h0 (br_f h1 (And.intro rfl (rr_mk hp hq)))))
theorem i_vc_size {k : Nat} {u : SX} {v : SY} (I : i_Rel k u v) (hk : k + 2 ≤ 1025) : wpX_size (fun r => wpY_size (fun r' => r' = r ∧ i_Rel (k + 2) u v) v) u := by
  obtain ⟨p, c, a, rfl, rfl, hp, hq⟩ := I
  exact And.intro rfl (rr_mk hp hq)
theorem i_vc_peek {k : Nat} {u : SX} {v : SY} (I : i_Rel k u v) (hk : k + 2 ≤ 1025) (v1 : Int32) : wpX_peek (fun r => wpY_peek (fun r' => r' = r ∧ i_Rel (k + 2) u v) v v1) u v1 := by
  obtain ⟨p, c, a, rfl, rfl, hp, hq⟩ := I
  have hc := rr_le hp hq
  by_cases h0 : v1 < 0
  · exact br_t h0 (br_t h0 (And.intro rfl (rr_mk hp hq)))
  · by_cases h1 : v1 < nI c
    · obtain ⟨m, hm, e⟩ := nI_of h0
      subst e
      have h2 : m < c := (nI_ltI hm (by omega)).mp h1
      have hi : vp_in (nI m) 64 := vp_in_nI (by omega) (by omega)
      exact br_f h0 (br_t h1 (And.intro hi (br_f h0 (br_t h1 (And.intro hi (And.intro rfl (rr_mk hp hq)))))))
    · exact br_f h0 (br_f h1 (br_f h0 (br_f h1 (And.intro rfl (rr_mk hp hq)))))
end
