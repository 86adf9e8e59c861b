section
/-! ===== 01: plain facts: the stack's entries, the count of lit places, -36, the neighbour ===== -/
/-- the stack's entries are places -/
def lf_St (a : Nat → Int32) : Prop := ∀ k, ∃ j : Nat, j < 432 ∧ a k = nI j
theorem lf_St0 : lf_St (fun _ => 0) := fun _ => ⟨0, by omega, rfl⟩
theorem lf_StU {a : Nat → Int32} {k p : Nat} (h : lf_St a) (hp : p < 432) : lf_St (upd a k (nI p)) := by
  intro j
  by_cases e : j = k
  · exact ⟨p, hp, by rw [e, pk_us]⟩
  · obtain ⟨q, hq, hh⟩ := h j
    exact ⟨q, hq, by rw [pk_un e]; exact hh⟩
/-- how many of the first n levels are not 0 -/
def lf_cnt (a : Nat → Int32) : Nat → Nat
  | 0 => 0
  | n + 1 => lf_cnt a n + (if a n = 0 then 0 else 1)
theorem lf_cnt_le (a : Nat → Int32) : ∀ n, lf_cnt a n ≤ n := by
  intro n
  induction n with
  | zero => exact Nat.le_refl 0
  | succ n ih =>
    show lf_cnt a n + (if a n = 0 then 0 else 1) ≤ n + 1
    split <;> omega
theorem lf_cnt_hi {a : Nat → Int32} {k : Nat} : ∀ n, n ≤ k → lf_cnt (upd a k 0) n = lf_cnt a n := by
  intro n
  induction n with
  | zero => intro _; rfl
  | succ n ih =>
    intro h
    show lf_cnt (upd a k 0) n + (if upd a k 0 n = 0 then 0 else 1) = lf_cnt a n + (if a n = 0 then 0 else 1)
    rw [ih (by omega), pk_un (by omega)]
theorem lf_cnt_drop {a : Nat → Int32} {k : Nat} (ha : ¬ a k = 0) : ∀ n, k < n → lf_cnt (upd a k 0) n + 1 = lf_cnt a n := by
  intro n
  induction n with
  | zero => intro h; exact absurd h (by omega)
  | succ n ih =>
    intro h
    show lf_cnt (upd a k 0) n + (if upd a k 0 n = 0 then 0 else 1) + 1 = lf_cnt a n + (if a n = 0 then 0 else 1)
    by_cases e : n = k
    · subst e
      rw [pk_us, lf_cnt_hi n (Nat.le_refl n), if_pos rfl, if_neg ha]
    · rw [pk_un e]
      have t := ih (by omega)
      generalize (if a n = 0 then 0 else 1) = z
      omega
/-- one column down: either below the block, or the cell 36 less -/
theorem lf_m36 {j : Nat} (hj : j < 216) : nI j + (-36) < 0 ∨ (36 ≤ j ∧ nI j + (-36) = nI (j - 36)) := by
  have e : nI j + (-36) = nI j - nI 36 := (Int32.sub_eq_add_neg (nI j) 36).symm
  by_cases h : j < 36
  · exact Or.inl (by rw [e]; exact pk_sneg (by omega) h)
  · exact Or.inr ⟨by omega, by rw [e]; exact pk_sub (by omega)⟩
theorem lf_nm1 {r : Nat} (h : r < 216) : ¬ nI r = -1 := by
  intro e
  have t := nI_pos (n := r) (by omega)
  rw [e] at t
  exact t (by decide)
theorem lf_nar0 : vp_nar .boolean 0 = 0 := by rfl
theorem lf_nar1 : vp_nar .boolean 1 = 1 := by rfl
theorem lf_one {a : Nat → Int32} {j k : Nat} (h : a k = 1) : upd a j 1 k = 1 := by
  by_cases e : k = j
  · rw [e, pk_us]
  · rw [pk_un e]
    exact h
theorem lf_upd_self (f : Nat → Int32) (i : Nat) : upd f i (f i) = f := by
  funext j
  by_cases e : j = i
  · rw [e, pk_us]
  · rw [pk_un e]
theorem lf_par {i : Nat} (hi : i < 6) : nI i &&& 1 = nI (i % 2) := pk_andN (by omega) 1 (by decide)
theorem lf_nb23 {post : Int32 → Prop} {c i z : Nat} (hc : c < 216) (hi : i < 6) (hz : z = 1 ∨ z = 6 ∨ z = 36) (h0 : post (-1)) (h1 : ∀ r, r < 216 → post (nI r)) : wX_neighbour_23 post (nI c) (nI i) (nI z) := by
  have z0 : 0 < z := by omega
  have z1 : z < 2 ^ 31 := by omega
  have hd : c / z < 216 := Nat.lt_of_le_of_lt (Nat.div_le_self c z) hc
  have lo : 0 < c / z % 6 → z ≤ c := by
    rcases hz with rfl | rfl | rfl <;> omega
  have hi' : c / z % 6 < 5 → c + z < 216 := by
    rcases hz with rfl | rfl | rfl <;> omega
  unfold wX_neighbour_23
  refine ⟨nI_ne0 z0 z1, by decide, ?_⟩
  rw [pk_div (show c < 2 ^ 31 by omega) z0 z1]
  refine nm_r (pk_rem (a := c / z) (d := 6) (by omega) (by omega) (by omega)) ?_
  rw [lf_par hi]
  have t6 : c / z % 6 < 6 := Nat.mod_lt _ (by omega)
  generalize c / z % 6 = t at lo hi' t6
  refine pk_eq (i % 2) 0 (fun _ => pk_le t 0 (fun _ => h0) (fun g => ?_)) (fun _ => pk_le 5 t (fun _ => h0) (fun g => ?_))
  · rw [pk_sub (lo g)]
    exact h1 _ (by omega)
  · rw [nI_add]
    exact h1 _ (hi' g)
theorem lf_nb {post : Int32 → Prop} {c i : Nat} (hc : c < 216) (hi : i < 6) (h0 : post (-1)) (h1 : ∀ r, r < 216 → post (nI r)) : wpX_neighbour post () (nI c) (nI i) :=
  pk_le 2 i (fun _ => pk_le i 3 (fun _ => lf_nb23 (z := 6) hc hi (by omega) h0 h1) (fun _ => lf_nb23 (z := 36) hc hi (by omega) h0 h1))
    (fun _ => pk_le i 3 (fun _ => lf_nb23 (z := 1) hc hi (by omega) h0 h1) (fun _ => lf_nb23 (z := 36) hc hi (by omega) h0 h1))
end
section
/-! ===== 02: drop and takeAway: every level stays or becomes 0, the place itself becomes 0; waiting + lit places ≤ 432 ===== -/
section
variable {post : St2 → Prop} {a1 a2 a3 a4 a5 a6 a7 a8 a9 : Nat → Int32}
theorem lf_drop {w p : Nat} (hw : w < 432) (hp : p < 432)
    (H : post (nI (w + 1), a1, a2, a3, upd a4 p 0, upd a5 p 1, upd a6 w (nI p), upd a7 w (a4 p), a8, a9)) : wpX_drop post (nI w, a1, a2, a3, a4, a5, a6, a7, a8, a9) (nI p) := by
  unfold wpX_drop
  dsimp only
  rw [nI_clamp (show w < 2 ^ 31 by omega), nI_clamp (show p < 2 ^ 31 by omega)]
  exact ⟨pk_in w 432 hw, nm_e ⟨pk_in p 432 hp, pk_in w 432 hw, nm_e (nm_r (nI_1 w) ⟨pk_in p 432 hp, nm_e ⟨pk_in p 432 hp, nm_e H⟩⟩)⟩⟩
end
/-- the picture of takeAway p, begun at the levels a0 -/
def lf_T (p : Nat) (a0 : Nat → Int32) (w : Nat) (a4 a6 : Nat → Int32) : Prop := w + lf_cnt a4 432 ≤ 432 ∧ lf_St a6 ∧ a4 p = 0 ∧ ∀ j, a4 j = 0 ∨ a4 j = a0 j
theorem lf_T_drop {p w q : Nat} {a0 a4 a6 : Nat → Int32} (h : lf_T p a0 w a4 a6) (hq : q < 432) (ha : ¬ a4 q = 0) : w < 432 ∧ lf_T p a0 (w + 1) (upd a4 q 0) (upd a6 w (nI q)) := by
  obtain ⟨h1, h2, h3, h4⟩ := h
  have t := lf_cnt_drop ha 432 hq
  refine ⟨by omega, by omega, lf_StU h2 hq, ?_, fun j => ?_⟩
  · by_cases e : p = q
    · rw [e, pk_us]
    · rw [pk_un e]
      exact h3
  · by_cases e : j = q
    · exact Or.inl (by rw [e, pk_us])
    · rw [pk_un e]
      exact h4 j
theorem lf_T_first {p : Nat} {a4 a6 : Nat → Int32} (hs : lf_St a6) (hp : p < 432) (ha : ¬ a4 p = 0) : lf_T p a4 1 (upd a4 p 0) (upd a6 0 (nI p)) := by
  have t := lf_cnt_drop ha 432 hp
  have t2 := lf_cnt_le a4 432
  refine ⟨by omega, lf_StU hs hp, pk_us, fun j => ?_⟩
  by_cases e : j = p
  · exact Or.inl (by rw [e, pk_us])
  · exact Or.inr (pk_un e)
section
variable {post : St2 → Prop} {a0 a1 a2 a3 a8 a9 : Nat → Int32} {p : Nat}
theorem lf_t86 {J : Int32 → Int32 → (Nat → Int32) → (Nat → Int32) → (Nat → Int32) → (Nat → Int32) → (Nat → Int32) → (Nat → Int32) → (Nat → Int32) → (Nat → Int32) → (Nat → Int32) → Prop} {x2 x4 : Int32} {b c : Nat} (hb : b = 0 ∨ b = 216) (hc : c < 216)
    (hJ : ∀ w a4 a5 a6 a7, lf_T p a0 w a4 a6 → J (x2 + 1) (nI w) a1 a2 a3 a4 a5 a6 a7 a8 a9) :
    ∀ n i w a4 a5 a6 a7, i ≤ 6 → 6 - i < n → lf_T p a0 w a4 a6 → wX_takeAway_86 post J x2 (nI (b + c)) x4 (nI b) n (nI i) (nI w) a1 a2 a3 a4 a5 a6 a7 a8 a9 := by
  intro n
  induction n with
  | zero => intro i w a4 a5 a6 a7 hi hn hT; exact absurd hn (by omega)
  | succ n ih =>
    intro i w a4 a5 a6 a7 hi hn hT
    refine pk_le 6 i (fun h => nm_e (hJ w a4 a5 a6 a7 hT)) (fun h => ?_)
    have nx : ∀ w a4 a5 a6 a7, lf_T p a0 w a4 a6 → wX_takeAway_86 post J x2 (nI (b + c)) x4 (nI b) n (nI i + 1) (nI w) a1 a2 a3 a4 a5 a6 a7 a8 a9 := by
      intro w a4 a5 a6 a7 hT
      rw [nI_1]
      exact ih (i + 1) w a4 a5 a6 a7 (by omega) (by omega) hT
    rw [pk_sub (show b ≤ b + c by omega), Nat.add_sub_cancel_left]
    refine lf_nb hc h (br_t rfl (nm_e (nx w a4 a5 a6 a7 hT))) (fun r hr => br_f (lf_nm1 hr) ?_)
    rw [nI_add b r, nI_clamp (show b + r < 2 ^ 31 by omega)]
    have hq : b + r < 432 := by omega
    refine ⟨pk_in (b + r) 432 hq, br_c (fun g => nm_e (nx w a4 a5 a6 a7 hT)) (fun g => ⟨pk_in (b + r) 432 hq, br_c (fun g2 => ⟨pk_in (b + r) 432 hq, nm_e (nm_e (nx w a4 _ a6 a7 hT))⟩) (fun g2 => ?_)⟩)⟩
    have D := lf_T_drop hT hq (fun e => g (by rw [e]; decide))
    refine lf_drop D.1 hq ?_
    dsimp only
    exact nm_e (nx _ _ _ _ _ D.2)
theorem lf_t22 (H : ∀ w a4 a5 a6 a7, lf_T p a0 w a4 a6 → post (nI w, a1, a2, a3, a4, a5, a6, a7, a8, a9)) :
    ∀ n i w a4 a5 a6 a7, i ≤ 432 → 432 - i < n → lf_T p a0 w a4 a6 → wX_takeAway_22 post n (nI i) (nI w) a1 a2 a3 a4 a5 a6 a7 a8 a9 := by
  intro n
  induction n with
  | zero => intro i w a4 a5 a6 a7 hi hn hT; exact absurd hn (by omega)
  | succ n ih =>
    intro i w a4 a5 a6 a7 hi hn hT
    have hw : w ≤ 432 := by have := hT.1; omega
    refine pk_le 432 i (fun _ => H w a4 a5 a6 a7 hT) (fun h => pk_le w 0 (fun _ => H w a4 a5 a6 a7 hT) (fun hw0 => ?_))
    obtain ⟨v, rfl⟩ : ∃ v, w = v + 1 := ⟨w - 1, by omega⟩
    refine nm_r (nI_pred v) ⟨pk_in v 432 (by omega), ?_⟩
    rw [nI_clamp (show v < 2 ^ 31 by omega)]
    obtain ⟨q, hq, eq⟩ := hT.2.1 v
    refine nm_r eq ⟨pk_in v 432 (by omega), nm_e ?_⟩
    have hT' : lf_T p a0 v a4 a6 := ⟨by have := hT.1; omega, hT.2⟩
    have hJ : ∀ w a4 a5 a6 a7, lf_T p a0 w a4 a6 → wX_takeAway_22 post n (nI i + 1) (nI w) a1 a2 a3 a4 a5 a6 a7 a8 a9 := by
      intro w a4 a5 a6 a7 hT
      rw [nI_1]
      exact ih (i + 1) w a4 a5 a6 a7 (by omega) (by omega) hT
    refine pk_le 216 q (fun g => ⟨7, ?_⟩) (fun g => ⟨7, ?_⟩)
    · have t := lf_t86 (post := post) (J := wX_takeAway_22 post n) (x2 := nI i) (x4 := a7 v) (b := 216) (c := q - 216) (Or.inr rfl) (by omega) hJ 7 0 v a4 a5 a6 a7 (by omega) (by omega) hT'
      rw [show 216 + (q - 216) = q by omega] at t
      exact t
    · have t := lf_t86 (post := post) (J := wX_takeAway_22 post n) (x2 := nI i) (x4 := a7 v) (b := 0) (c := q) (Or.inl rfl) g hJ 7 0 v a4 a5 a6 a7 (by omega) (by omega) hT'
      rw [Nat.zero_add] at t
      exact t
theorem lf_take {x : Int32} {a4 a5 a6 a7 : Nat → Int32} (hp : p < 432) (hs : lf_St a6)
    (H : ∀ x' a4' a5' a6' a7', lf_St a6' → a4' p = 0 → (∀ j, a4' j = 0 ∨ a4' j = a4 j) → (a4 p = 0 → a4' = a4) → post (x', a1, a2, a3, a4', a5', a6', a7', a8, a9)) :
    wpX_takeAway post (x, a1, a2, a3, a4, a5, a6, a7, a8, a9) (nI p) := by
  unfold wpX_takeAway
  dsimp only
  rw [nI_clamp (show p < 2 ^ 31 by omega)]
  refine ⟨pk_in p 432 hp, br_c (fun g => H x a4 a5 a6 a7 hs g (fun j => Or.inr rfl) (fun _ => rfl)) (fun g => ?_)⟩
  refine lf_drop (w := 0) (by omega) hp ?_
  dsimp only
  exact ⟨433, lf_t22 (p := p) (a0 := a4) (fun w a4' a5' a6' a7' hT => H _ a4' a5' a6' a7' hT.2.1 hT.2.2.1 hT.2.2.2 (fun e => absurd e g)) 433 0 1 _ _ _ _ (by omega) (by omega) (lf_T_first hs hp g)⟩
end
end
section
/-! ===== 03: source, pass, flow: a property of the levels that holds after the rims took their own level, and that every pass keeps, holds at the end ===== -/
/-- the level that a place has of its own -/
def lf_src (a2 a3 : Nat → Int32) (p : Nat) : Int32 := if p < 216 then a2 p else if a3 (p - 216) = 0 then 0 else 8
/-- the levels when the first k rims have taken their own level -/
def lf_own (a2 a3 a5 : Nat → Int32) (k : Nat) (a4 : Nat → Int32) : Nat → Int32 := fun p => if p < k ∧ ¬ a5 p = 0 ∧ ¬ lf_src a2 a3 p ≤ a4 p then lf_src a2 a3 p else a4 p
/-- Q is kept by every single pass of light -/
def lf_Cl (a1 : Nat → Int32) (Q : (Nat → Int32) → Prop) : Prop := ∀ (a : Nat → Int32) (b c q m : Nat), Q a → (b = 0 ∨ b = 216) → c < 216 → q < 216 → a1 q = 0 → 1 ≤ m → m ≤ 12 → a (b + c) = nI m → ¬ nI (m - 1) ≤ a (b + q) → Q (upd a (b + q) (nI (m - 1)))
theorem lf_Cl_true {a1 : Nat → Int32} : lf_Cl a1 (fun _ => True) := fun _ _ _ _ _ _ _ _ _ _ _ _ _ _ => trivial
theorem lf_Cl_and {a1 : Nat → Int32} {P Q : (Nat → Int32) → Prop} (h1 : lf_Cl a1 P) (h2 : lf_Cl a1 Q) : lf_Cl a1 (fun a => P a ∧ Q a) :=
  fun a b c q m h hb hc hq hz hm1 hm e g => ⟨h1 a b c q m h.1 hb hc hq hz hm1 hm e g, h2 a b c q m h.2 hb hc hq hz hm1 hm e g⟩
/-- a solid cell's level isn't touched -/
theorem lf_Cl_solid {a1 : Nat → Int32} {b0 c0 : Nat} {v : Int32} (hb0 : b0 = 0 ∨ b0 = 216) (hc0 : c0 < 216) (h : ¬ a1 c0 = 0) : lf_Cl a1 (fun a => a (b0 + c0) = v) := by
  intro a b c q m hQ hb hc hq hz hm1 hm e g
  have ne : b0 + c0 ≠ b + q := by
    intro z
    have z' : c0 = q := by omega
    rw [z'] at h
    exact h hz
  show upd a (b + q) (nI (m - 1)) (b0 + c0) = v
  rw [pk_un ne]
  exact hQ
/-- the brightest level of a half is kept -/
theorem lf_Cl_top {a1 : Nat → Int32} {b0 c0 v : Nat} (hb0 : b0 = 0 ∨ b0 = 216) (hc0 : c0 < 216) (hv : v ≤ 12) : lf_Cl a1 (fun a => (∀ k, k < 216 → a (b0 + k) ≤ nI v) ∧ a (b0 + c0) = nI v) := by
  intro a b c q m hQ hb hc hq hz hm1 hm e g
  obtain ⟨Q1, Q2⟩ := hQ
  by_cases eb : b = b0
  · subst eb
    have l1 : nI m ≤ nI v := by rw [← e]; exact Q1 c hc
    have l2 : m ≤ v := (nI_leI (by omega) (by omega)).mp l1
    refine ⟨fun k hk => ?_, ?_⟩
    · by_cases ek : k = q
      · rw [ek, pk_us]
        exact nI_le (by omega) (by omega)
      · rw [pk_un (by omega)]
        exact Q1 k hk
    · have ne : c0 ≠ q := by
        intro z
        rw [← z, Q2] at g
        exact g (nI_le (by omega) (by omega))
      rw [pk_un (by omega)]
      exact Q2
  · refine ⟨fun k hk => ?_, ?_⟩
    · rw [pk_un (by omega)]
      exact Q1 k hk
    · rw [pk_un (by omega)]
      exact Q2
theorem lf_own_0 (a2 a3 a5 a4 : Nat → Int32) : lf_own a2 a3 a5 0 a4 = a4 := by
  funext j
  exact if_neg (fun h => absurd h.1 (Nat.not_lt_zero j))
theorem lf_own_at (a2 a3 a5 a4 : Nat → Int32) (i : Nat) : lf_own a2 a3 a5 i a4 i = a4 i := if_neg (fun h => absurd h.1 (Nat.lt_irrefl i))
theorem lf_own_off {a2 a3 a5 a4 : Nat → Int32} {i j : Nat} (e : j ≠ i) : lf_own a2 a3 a5 (i + 1) a4 j = lf_own a2 a3 a5 i a4 j := by
  unfold lf_own
  by_cases g : j < i ∧ ¬ a5 j = 0 ∧ ¬ lf_src a2 a3 j ≤ a4 j
  · rw [if_pos g, if_pos ⟨by omega, g.2⟩]
  · rw [if_neg g, if_neg (fun z => g ⟨by have := z.1; omega, z.2⟩)]
theorem lf_own_keep {a2 a3 a5 a4 : Nat → Int32} {i : Nat} (h : a5 i = 0 ∨ lf_src a2 a3 i ≤ a4 i) : lf_own a2 a3 a5 (i + 1) a4 = lf_own a2 a3 a5 i a4 := by
  funext j
  by_cases e : j = i
  · rw [e, lf_own_at]
    refine if_neg (fun g => ?_)
    rcases h with h | h
    · exact g.2.1 h
    · exact g.2.2 h
  · exact lf_own_off e
theorem lf_own_new {a2 a3 a5 a4 : Nat → Int32} {i : Nat} (h5 : ¬ a5 i = 0) (hs : ¬ lf_src a2 a3 i ≤ a4 i) : lf_own a2 a3 a5 (i + 1) a4 = upd (lf_own a2 a3 a5 i a4) i (lf_src a2 a3 i) := by
  funext j
  by_cases e : j = i
  · rw [e, pk_us]
    exact if_pos ⟨by omega, h5, hs⟩
  · rw [pk_un e]
    exact lf_own_off e
theorem lf_own_le {a2 a3 a5 a4 : Nat → Int32} {k p : Nat} {M : Int32} (h1 : lf_src a2 a3 p ≤ M) (h2 : a4 p ≤ M) : lf_own a2 a3 a5 k a4 p ≤ M := by
  unfold lf_own
  split
  · exact h1
  · exact h2
theorem lf_own_sm {a2 a3 a5 a4 : Nat → Int32} {k p : Nat} (h1 : lf_src a2 a3 p ≤ a4 p) : lf_own a2 a3 a5 k a4 p = a4 p := if_neg (fun g => g.2.2 h1)
theorem lf_own_gr {a2 a3 a5 a4 : Nat → Int32} {k p : Nat} (hp : p < k) (h5 : ¬ a5 p = 0) (h1 : a4 p ≤ lf_src a2 a3 p) : lf_own a2 a3 a5 k a4 p = lf_src a2 a3 p := by
  by_cases g : lf_src a2 a3 p ≤ a4 p
  · rw [lf_own_sm g]
    exact Int32.le_antisymm h1 g
  · exact if_pos ⟨hp, h5, g⟩
section
variable {post : St2 → Prop} {x : Int32} {a1 a2 a3 a6 a7 a8 a9 : Nat → Int32}
theorem lf_source {ps : Int32 → Prop} {a4 a5 : Nat → Int32} {p : Nat} (hp : p < 432) (H : ps (lf_src a2 a3 p)) : wpX_source ps (x, a1, a2, a3, a4, a5, a6, a7, a8, a9) (nI p) := by
  unfold wpX_source
  dsimp only
  refine pk_le 216 p (fun g => ?_) (fun g => ?_)
  · have e : nI p - 216 = nI (p - 216) := pk_sub (b := 216) g
    rw [e, nI_clamp (show p - 216 < 2 ^ 31 by omega)]
    unfold lf_src at H
    rw [if_neg (show ¬ p < 216 by omega)] at H
    refine ⟨pk_in (p - 216) 216 (by omega), br_c (fun z => ?_) (fun z => ?_)⟩
    · rw [if_pos z] at H
      exact H
    · rw [if_neg z] at H
      exact H
  · rw [nI_clamp (show p < 2 ^ 31 by omega)]
    unfold lf_src at H
    rw [if_pos g] at H
    exact ⟨pk_in p 216 g, H⟩
theorem lf_p18 {Q : (Nat → Int32) → Prop} {b c m : Nat} (hb : b = 0 ∨ b = 216) (hc : c < 216) (hm1 : 1 ≤ m) (hm : m ≤ 12) (hQ : lf_Cl a1 Q)
    (H : ∀ a4 a5, Q a4 → post (x, a1, a2, a3, a4, a5, a6, a7, a8, a9)) :
    ∀ n i a4 a5, i ≤ 6 → 6 - i < n → Q a4 → a4 (b + c) = nI m → wX_pass_18 post (nI (b + c)) (nI m) (nI b) x n (nI i) a1 a2 a3 a4 a5 a6 a7 a8 a9 := by
  intro n
  induction n with
  | zero => intro i a4 a5 hi hn; exact absurd hn (by omega)
  | succ n ih =>
    intro i a4 a5 hi hn q4 e4
    refine pk_le 6 i (fun h => H a4 a5 q4) (fun h => ?_)
    have nx : ∀ a4 a5, Q a4 → a4 (b + c) = nI m → wX_pass_18 post (nI (b + c)) (nI m) (nI b) x n (nI i + 1) a1 a2 a3 a4 a5 a6 a7 a8 a9 := by
      intro a4 a5 q4 e4
      rw [nI_1]
      exact ih (i + 1) a4 a5 (by omega) (by omega) q4 e4
    rw [pk_sub (show b ≤ b + c by omega), Nat.add_sub_cancel_left]
    refine lf_nb hc h (br_t rfl (nm_e (nx a4 a5 q4 e4))) (fun r hr => br_f (lf_nm1 hr) ?_)
    have em : nI m - 1 = nI (m - 1) := pk_sub (b := 1) hm1
    rw [nI_add b r, nI_clamp (show b + r < 2 ^ 31 by omega), nI_clamp (show r < 2 ^ 31 by omega), em]
    have hq : b + r < 432 := by omega
    refine ⟨pk_in r 216 hr, br_c (fun g1 => ⟨pk_in (b + r) 432 hq, br_c (fun g2 => nm_e (nx a4 a5 q4 e4)) (fun g2 => ⟨pk_in (b + r) 432 hq, nm_e ⟨pk_in (b + r) 432 hq, nm_e (nm_e (nx _ _ (hQ a4 b c r m q4 hb hc hr g1 hm1 hm e4 g2) ?_))⟩⟩)⟩) (fun g1 => nm_e (nx a4 a5 q4 e4))⟩
    have ne : b + c ≠ b + r := by
      intro z
      rw [← z, e4] at g2
      exact g2 (nI_le (by omega) (by omega))
    rw [pk_un ne]
    exact e4
theorem lf_pass {Q : (Nat → Int32) → Prop} {a4 a5 : Nat → Int32} {p m : Nat} (hp : p < 432) (hm1 : 1 ≤ m) (hm : m ≤ 12) (hQ : lf_Cl a1 Q) (q4 : Q a4) (e4 : a4 p = nI m)
    (H : ∀ a4 a5, Q a4 → post (x, a1, a2, a3, a4, a5, a6, a7, a8, a9)) : wpX_pass post (x, a1, a2, a3, a4, a5, a6, a7, a8, a9) (nI p) (nI m) := by
  unfold wpX_pass
  dsimp only
  refine pk_le 216 p (fun g => ⟨7, ?_⟩) (fun g => ⟨7, ?_⟩)
  · have e : 216 + (p - 216) = p := by omega
    have t := lf_p18 (post := post) (x := x) (a2 := a2) (a3 := a3) (a6 := a6) (a7 := a7) (a8 := a8) (a9 := a9) (b := 216) (c := p - 216) (Or.inr rfl) (by omega) hm1 hm hQ H 7 0 a4 a5 (by omega) (by omega) q4 (by rw [e]; exact e4)
    rw [e] at t
    exact t
  · have t := lf_p18 (post := post) (x := x) (a2 := a2) (a3 := a3) (a6 := a6) (a7 := a7) (a8 := a8) (a9 := a9) (b := 0) (c := p) (Or.inl rfl) g hm1 hm hQ H 7 0 a4 a5 (by omega) (by omega) q4 (by rw [Nat.zero_add]; exact e4)
    rw [Nat.zero_add] at t
    exact t
theorem lf_f118 {a4 : Nat → Int32} (H : ∀ a5, post (x, a1, a2, a3, a4, a5, a6, a7, a8, a9)) : ∀ n i a5, i ≤ 432 → 432 - i < n → wX_flow_118 post x n (nI i) a1 a2 a3 a4 a5 a6 a7 a8 a9 := by
  intro n
  induction n with
  | zero => intro i a5 hi hn; exact absurd hn (by omega)
  | succ n ih =>
    intro i a5 hi hn
    exact pk_le 432 i (fun _ => H a5) (fun h => ⟨pk_in i 432 h, nm_e (nm_r (nI_1 i) (ih (i + 1) _ (by omega) (by omega)))⟩)
theorem lf_f65 {Q : (Nat → Int32) → Prop} {J : Int32 → Int32 → (Nat → Int32) → (Nat → Int32) → (Nat → Int32) → (Nat → Int32) → (Nat → Int32) → (Nat → Int32) → (Nat → Int32) → (Nat → Int32) → (Nat → Int32) → Prop} {m : Nat} (hm1 : 1 ≤ m) (hm : m ≤ 12) (hQ : lf_Cl a1 Q)
    (hJ : ∀ a4 a5, Q a4 → J (nI m + (-1)) x a1 a2 a3 a4 a5 a6 a7 a8 a9) :
    ∀ n i a4 a5, i ≤ 432 → 432 - i < n → Q a4 → wX_flow_65 post J (nI m) n (nI i) x a1 a2 a3 a4 a5 a6 a7 a8 a9 := by
  intro n
  induction n with
  | zero => intro i a4 a5 hi hn; exact absurd hn (by omega)
  | succ n ih =>
    intro i a4 a5 hi hn q4
    refine pk_le 432 i (fun h => nm_e (hJ a4 a5 q4)) (fun h => ?_)
    have nx : ∀ a4 a5, Q a4 → wX_flow_65 post J (nI m) n (nI i + 1) x a1 a2 a3 a4 a5 a6 a7 a8 a9 := by
      intro a4 a5 q4
      rw [nI_1]
      exact ih (i + 1) a4 a5 (by omega) (by omega) q4
    rw [nI_clamp (show i < 2 ^ 31 by omega)]
    refine ⟨pk_in i 432 h, br_c (fun g => nm_e (nx a4 a5 q4)) (fun g => ⟨pk_in i 432 h, br_c (fun g2 => ⟨pk_in i 432 h, nm_e ?_⟩) (fun g2 => nm_e (nx a4 a5 q4))⟩)⟩
    refine lf_pass h hm1 hm hQ q4 g2 (fun a4' a5' q4' => ?_)
    dsimp only
    exact nm_e (nx a4' a5' q4')
theorem lf_f59 {Q : (Nat → Int32) → Prop} (hQ : lf_Cl a1 Q) (H : ∀ a4 a5, Q a4 → post (x, a1, a2, a3, a4, a5, a6, a7, a8, a9)) :
    ∀ n m a4 a5, m ≤ 12 → m < n → Q a4 → wX_flow_59 post n (nI m) x a1 a2 a3 a4 a5 a6 a7 a8 a9 := by
  intro n
  induction n with
  | zero => intro m a4 a5 hm hn; exact absurd hn (by omega)
  | succ n ih =>
    intro m a4 a5 hm hn q4
    refine pk_le m 0 (fun h => ⟨433, lf_f118 (fun a5' => H a4 a5' q4) 433 0 a5 (by omega) (by omega)⟩) (fun h => ⟨433, ?_⟩)
    refine lf_f65 (Q := Q) h hm hQ (fun a4' a5' q4' => ?_) 433 0 a4 a5 (by omega) (by omega) q4
    rw [sb_m1 h]
    exact ih (m - 1) a4' a5' (by omega) (by omega) q4'
theorem lf_f2 {a5 a0 : Nat → Int32} (H : ∃ n, wX_flow_59 post n 12 x a1 a2 a3 (lf_own a2 a3 a5 432 a0) a5 a6 a7 a8 a9) :
    ∀ n i, i ≤ 432 → 432 - i < n → wX_flow_2 post x n (nI i) a1 a2 a3 (lf_own a2 a3 a5 i a0) a5 a6 a7 a8 a9 := by
  intro n
  induction n with
  | zero => intro i hi hn; exact absurd hn (by omega)
  | succ n ih =>
    intro i hi hn
    refine pk_le 432 i (fun h => ?_) (fun h => ?_)
    · have e : i = 432 := by omega
      rw [e]
      exact H
    · have nx : ∀ a4, a4 = lf_own a2 a3 a5 (i + 1) a0 → wX_flow_2 post x n (nI i + 1) a1 a2 a3 a4 a5 a6 a7 a8 a9 := by
        intro a4 e
        rw [nI_1, e]
        exact ih (i + 1) (by omega) (by omega)
      rw [nI_clamp (show i < 2 ^ 31 by omega)]
      refine ⟨pk_in i 432 h, br_c (fun g => nm_e (nx _ (lf_own_keep (Or.inl g)).symm)) (fun g => ?_)⟩
      refine lf_source h ?_
      rw [lf_own_at]
      refine ⟨pk_in i 432 h, br_c (fun g2 => ⟨pk_in i 432 h, pk_in i 432 h, nm_e (nm_e (nx _ ?_))⟩) (fun g2 => ⟨pk_in i 432 h, nm_e (nm_e (nx _ (lf_own_new g g2).symm))⟩)⟩
      rw [lf_own_keep (Or.inr g2)]
      have t := lf_upd_self (lf_own a2 a3 a5 i a0) i
      rw [lf_own_at] at t
      exact t
theorem lf_flow {a4 a5 : Nat → Int32} (Q : (Nat → Int32) → Prop) (hQ : lf_Cl a1 Q) (h0 : Q (lf_own a2 a3 a5 432 a4))
    (H : ∀ a4' a5', Q a4' → post (x, a1, a2, a3, a4', a5', a6, a7, a8, a9)) : wpX_flow post (x, a1, a2, a3, a4, a5, a6, a7, a8, a9) := by
  unfold wpX_flow
  dsimp only
  refine ⟨433, ?_⟩
  have t := lf_f2 (post := post) (x := x) (a1 := a1) (a2 := a2) (a3 := a3) (a6 := a6) (a7 := a7) (a8 := a8) (a9 := a9) (a5 := a5) (a0 := a4) ⟨13, lf_f59 hQ H 13 12 _ _ (by omega) (by omega) h0⟩ 433 0 (by omega) (by omega)
  rw [lf_own_0] at t
  exact t
end
end
section
/-! ===== 04: the methods ===== -/
theorem lf_216 (c : Nat) : (216 : Int32) + nI c = nI (216 + c) := nI_add 216 c
theorem lf_cellN {ps : Int32 → Prop} {y : Int32} (h : y < 0 ∨ 216 ≤ y) (H : ps 0) : wpX_isCell ps () y :=
  br_c (fun _ => H) (fun g => br_t (h.resolve_left g) H)
theorem lf_cellY {ps : Int32 → Prop} {c : Nat} (hc : c < 216) (H : ps 1) : wpX_isCell ps () (nI c) :=
  br_f (nI_pos (by omega)) (pk_le 216 c (fun g => absurd hc (by omega)) (fun _ => H))
theorem lf_src_lo {a2 a3 : Nat → Int32} {p : Nat} (h : p < 216) : lf_src a2 a3 p = a2 p := if_pos h
theorem lf_src_hi {a2 a3 : Nat → Int32} {c : Nat} : lf_src a2 a3 (216 + c) = if a3 c = 0 then 0 else 8 := by
  unfold lf_src
  rw [if_neg (by omega), show 216 + c - 216 = c by omega]
theorem lf_src_8 {a2 a3 : Nat → Int32} {c : Nat} : lf_src a2 a3 (216 + c) ≤ 8 := by
  rw [lf_src_hi]
  split <;> decide
section
variable {post : St2 → Prop} {x : Int32} {mc ms : Nat} {a1 a2 a5 a6 a7 a8 a9 : Nat → Int32}
theorem lf_i87 {kc ks : Nat} (H : ∀ a3 a4, (∀ k, k < 216 → a4 k = 0) → (∀ k, k < 216 → a4 (216 + k) = 8) → post (x, a1, a2, a3, a4, a5, a6, a7, a8, a9)) :
    ∀ n i a3 a4, i ≤ 216 → 216 - i < n → (∀ k, k < 216 → a4 k = 0) → (∀ k, k < i → a4 (216 + k) = 8) → wX_init_87 post mc ms kc ks x n (nI i) a1 a2 a3 a4 a5 a6 a7 a8 a9 := by
  intro n
  induction n with
  | zero => intro i a3 a4 hi hn; exact absurd hn (by omega)
  | succ n ih =>
    intro i a3 a4 hi hn h0 h8
    refine pk_le 216 i (fun h => H a3 a4 h0 (fun k hk => h8 k (by omega))) (fun h => ?_)
    rw [lf_216, nI_clamp (show 216 + i < 2 ^ 31 by omega)]
    refine ⟨pk_in i 216 h, nm_e ⟨pk_in (216 + i) 432 (by omega), nm_e (nm_r (nI_1 i) (ih (i + 1) _ _ (by omega) (by omega) (fun k hk => ?_) (fun k hk => ?_)))⟩⟩
    · rw [pk_un (by omega)]
      exact h0 k hk
    · by_cases e : k = i
      · rw [e, pk_us]
      · rw [pk_un (by omega)]
        exact h8 k (by omega)
end
theorem lf_init {post : St2 → Prop} {x : Int32} {mc ms : Nat} (hc : 9 ≤ mc) (hs : 2808 ≤ ms)
    (H : ∀ a3 a4, (∀ k, k < 216 → a4 k = 0) → (∀ k, k < 216 → a4 (216 + k) = 8) → post (x, (fun _ => 0), (fun _ => 0), a3, a4, (fun _ => 0), (fun _ => 0), (fun _ => 0), (fun _ => 0), (fun _ => 0))) : wpX_init post mc ms x :=
  ⟨by omega, by omega, by omega, by omega, by omega, by omega, by omega, by omega, by omega, by omega, by omega, by omega, by omega, by omega, by omega, by omega, hc, hs, 217,
    lf_i87 H 217 0 _ _ (by omega) (by omega) (fun _ _ => rfl) (fun k hk => absurd hk (by omega))⟩
section
variable {x : Int32} {a1 a2 a3 a4 a5 a6 a7 a8 a9 : Nat → Int32} {c : Nat}
theorem lf_setLamp {post : St2 → Prop} {y : Int32} (hc : c < 216) (hs : lf_St a6) (Q : (Nat → Int32) → Prop) (hQ : lf_Cl a1 Q)
    (h0 : ∀ a4' a5' : Nat → Int32, a4' c = 0 → (a4 c = 0 → a4' = a4) → a5' c = 1 → Q (lf_own (upd a2 c y) a3 a5' 432 a4'))
    (H : ∀ x' a4' a5' a6' a7', lf_St a6' → Q a4' → post (x', a1, upd a2 c y, a3, a4', a5', a6', a7', a8, a9)) : wpX_setLamp post (x, a1, a2, a3, a4, a5, a6, a7, a8, a9) (nI c) y := by
  unfold wpX_setLamp
  dsimp only
  refine lf_take (by omega) hs (fun x' a4' a5' a6' a7' hs' hz hr hk => ?_)
  dsimp only
  rw [nI_clamp (show c < 2 ^ 31 by omega)]
  refine ⟨pk_in c 216 hc, nm_e ⟨pk_in c 432 (by omega), nm_e ?_⟩⟩
  refine lf_flow Q hQ (h0 a4' _ hz hk pk_us) (fun a4'' a5'' hq => ?_)
  exact H _ _ _ _ _ hs' hq
theorem lf_lampN {post : Int32 → St2 → Prop} {u : St2} {y z : Int32} (h : z < 0 ∨ 216 ≤ z) (H : post (-1) u) : wpX_lamp post u z y := by
  obtain ⟨x, a1, a2, a3, a4, a5, a6, a7, a8, a9⟩ := u
  unfold wpX_lamp
  dsimp only
  exact lf_cellN h (br_t rfl H)
theorem lf_lampX {post : Int32 → St2 → Prop} {y : Int32} (hc : c < 216) (h : y < 0 ∨ 12 < y) (H : post (-2) (x, a1, a2, a3, a4, a5, a6, a7, a8, a9)) : wpX_lamp post (x, a1, a2, a3, a4, a5, a6, a7, a8, a9) (nI c) y := by
  unfold wpX_lamp
  dsimp only
  exact lf_cellY hc (br_f (by decide) (br_c (fun _ => H) (fun g => br_f (fun g2 => absurd (h.resolve_left g) (Int32.not_lt.mpr g2)) H)))
theorem lf_lampY {post : Int32 → St2 → Prop} {v : Nat} (hc : c < 216) (hv : v ≤ 12) (hs : lf_St a6) (Q : (Nat → Int32) → Prop) (hQ : lf_Cl a1 Q)
    (h0 : ∀ a4' a5' : Nat → Int32, a4' c = 0 → (a4 c = 0 → a4' = a4) → a5' c = 1 → Q (lf_own (upd a2 c (nI v)) a3 a5' 432 a4'))
    (H : ∀ x' a4' a5' a6' a7', lf_St a6' → Q a4' → post (a2 c) (x', a1, upd a2 c (nI v), a3, a4', a5', a6', a7', a8, a9)) : wpX_lamp post (x, a1, a2, a3, a4, a5, a6, a7, a8, a9) (nI c) (nI v) := by
  unfold wpX_lamp
  dsimp only
  rw [nI_clamp (show c < 2 ^ 31 by omega)]
  refine lf_cellY hc (br_f (by decide) (br_f (nI_pos (by omega)) (pk_le v 12 (fun _ => ⟨pk_in c 216 hc, nm_e ?_⟩) (fun g => absurd hv (by omega)))))
  exact lf_setLamp hc hs Q hQ h0 H
/-- the law's last lamp: only its answer counts -/
theorem lf_lampC {post : Int32 → St2 → Prop} (hc : c < 216) (hs : lf_St a6)
    (H : ∀ x' a1' a2' a3' a4' a5' a6' a7' a8' a9', post (a2 c) (x', a1', a2', a3', a4', a5', a6', a7', a8', a9')) : wpX_lamp post (x, a1, a2, a3, a4, a5, a6, a7, a8, a9) (nI c) 0 :=
  lf_lampY (v := 0) hc (by omega) hs (fun _ => True) lf_Cl_true (fun _ _ _ _ _ => trivial) (fun _ _ _ _ _ _ _ => H _ _ _ _ _ _ _ _ _ _)
/-- the law's first lamp: on dark lamplight and full skylight -/
theorem lf_lampA {post : Int32 → St2 → Prop} {v : Nat} (hc : c < 216) (hv : v ≤ 12) (hs : lf_St a6) (z2 : ∀ k, a2 k = 0) (z4 : ∀ k, k < 216 → a4 k = 0) (z8 : ∀ k, k < 216 → a4 (216 + k) = 8)
    (H : ∀ x' a4' a5' a6' a7', lf_St a6' → a4' c = nI v → a4' (216 + c) = 8 → post (a2 c) (x', a1, upd a2 c (nI v), a3, a4', a5', a6', a7', a8, a9)) : wpX_lamp post (x, a1, a2, a3, a4, a5, a6, a7, a8, a9) (nI c) (nI v) := by
  refine lf_lampY hc hv hs (fun a => ((∀ k, k < 216 → a (0 + k) ≤ nI v) ∧ a (0 + c) = nI v) ∧ ((∀ k, k < 216 → a (216 + k) ≤ nI 8) ∧ a (216 + c) = nI 8))
    (lf_Cl_and (lf_Cl_top (Or.inl rfl) hc hv) (lf_Cl_top (Or.inr rfl) hc (by omega))) (fun a4' a5' _ hk h5 => ?_) (fun x' a4' a5' a6' a7' hs' hq => H x' a4' a5' a6' a7' hs' (by have := hq.1.2; rw [Nat.zero_add] at this; exact this) hq.2.2)
  have e4 := hk (z4 c hc)
  subst e4
  have v0 : (0 : Int32) ≤ nI v := nI_pos' (by omega)
  refine ⟨⟨fun k hk => ?_, ?_⟩, fun k hk => ?_, ?_⟩
  · rw [Nat.zero_add]
    refine lf_own_le ?_ (by rw [z4 k hk]; exact v0)
    rw [lf_src_lo hk]
    by_cases e : k = c
    · rw [e, pk_us]
      exact Int32.le_refl _
    · rw [pk_un e, z2]
      exact v0
  · rw [Nat.zero_add, lf_own_gr (by omega) (by rw [h5]; decide) (by rw [lf_src_lo hc, pk_us, z4 c hc]; exact v0), lf_src_lo hc, pk_us]
  · exact lf_own_le lf_src_8 (by rw [z8 k hk]; exact Int32.le_refl _)
  · rw [lf_own_sm (by rw [z8 c hc]; exact lf_src_8), z8 c hc]
    rfl
end
section
variable {post : St2 → Prop} {c v : Nat} {a1 a2 a8 a9 : Nat → Int32}
theorem lf_c154 {x : Int32} {a3 a4 a6 a7 : Nat → Int32} (hc : c < 216) (Q : (Nat → Int32) → Prop) (hQ : lf_Cl a1 Q) (h0 : ∀ a5 : Nat → Int32, a5 c = 1 → a5 (216 + c) = 1 → Q (lf_own a2 a3 a5 432 a4))
    (H : ∀ a4' a5', Q a4' → post (x, a1, a2, a3, a4', a5', a6, a7, a8, a9)) :
    ∀ n i a5, i ≤ 6 → 6 - i < n → a5 c = 1 → a5 (216 + c) = 1 → wX_change_154 post (nI c) x n (nI i) a1 a2 a3 a4 a5 a6 a7 a8 a9 := by
  intro n
  induction n with
  | zero => intro i a5 hi hn; exact absurd hn (by omega)
  | succ n ih =>
    intro i a5 hi hn h1 h2
    refine pk_le 6 i (fun h => lf_flow Q hQ (h0 a5 h1 h2) (fun a4' a5' hq => H a4' a5' hq)) (fun h => ?_)
    have nx : ∀ a5, a5 c = 1 → a5 (216 + c) = 1 → wX_change_154 post (nI c) x n (nI i + 1) a1 a2 a3 a4 a5 a6 a7 a8 a9 := by
      intro a5 h1 h2
      rw [nI_1]
      exact ih (i + 1) a5 (by omega) (by omega) h1 h2
    refine lf_nb hc h (br_t rfl (nm_e (nx a5 h1 h2))) (fun r hr => br_f (lf_nm1 hr) ?_)
    rw [lf_216, nI_clamp (show 216 + r < 2 ^ 31 by omega), nI_clamp (show r < 2 ^ 31 by omega)]
    exact ⟨pk_in r 432 (by omega), nm_e ⟨pk_in (216 + r) 432 (by omega), nm_e (nm_e (nx _ (lf_one (lf_one h1)) (lf_one (lf_one h2))))⟩⟩
/-- one row of the loop down the column: sees becomes z -/
theorem lf_c117 {J : Int32 → Int32 → (Nat → Int32) → (Nat → Int32) → (Nat → Int32) → (Nat → Int32) → (Nat → Int32) → (Nat → Int32) → (Nat → Int32) → (Nat → Int32) → (Nat → Int32) → Prop} {x x1 : Int32} {a3 a4 a5 a6 a7 : Nat → Int32} {j : Nat} (hj : j < 216)
    (H : J 0 (nI j + (-36)) a1 a2 (upd a3 j 0) a4 (upd a5 (216 + j) 1) a6 a7 a8 a9) : wX_change_116 post J x1 (nI j) x a1 a2 a3 a4 a5 a6 a7 a8 a9 := by
  unfold wX_change_116 wX_change_117
  rw [lf_216, nI_clamp (show 216 + j < 2 ^ 31 by omega), nI_clamp (show j < 2 ^ 31 by omega), lf_nar0]
  exact ⟨pk_in j 216 hj, nm_e ⟨pk_in (216 + j) 432 (by omega), nm_e (nm_e H)⟩⟩
/-- where the loops down a column stand, and their fuel -/
def lf_dn (n : Nat) (y : Int32) : Prop := (y < 0 ∧ 1 ≤ n) ∨ ∃ j : Nat, j < 216 ∧ y = nI j ∧ j + 1 < n
theorem lf_dn_s {n j : Nat} (hj : j < 216) (hn : j < n) : lf_dn n (nI j + (-36)) := by
  rcases lf_m36 hj with h | ⟨h, e⟩
  · exact Or.inl ⟨h, by omega⟩
  · exact Or.inr ⟨j - 36, by omega, e, by omega⟩
theorem lf_c93 {x : Int32} {a4 a6 a7 : Nat → Int32} (hc : c < 216) (Q : (Nat → Int32) → Prop) (hQ : lf_Cl a1 Q)
    (h0 : ∀ a3 a5 : Nat → Int32, a3 c = 0 → a5 c = 1 → a5 (216 + c) = 1 → Q (lf_own a2 a3 a5 432 a4))
    (H : ∀ a3 a4' a5', Q a4' → post (x, a1, a2, a3, a4', a5', a6, a7, a8, a9)) :
    ∀ n y a3 a5, lf_dn n y → a3 c = 0 → a5 (216 + c) = 1 → wX_change_93 post (nI c) x n 0 y a1 a2 a3 a4 a5 a6 a7 a8 a9 := by
  intro n
  induction n with
  | zero => intro y a3 a5 hd; rcases hd with ⟨_, h⟩ | ⟨j, _, _, h⟩ <;> exact absurd h (by omega)
  | succ n ih =>
    intro y a3 a5 hd h3 h5
    rcases hd with ⟨hy, _⟩ | ⟨j, hj, rfl, hn⟩
    · refine br_t hy ⟨pk_in c 432 (by omega), nm_e ⟨7, ?_⟩⟩
      rw [nI_clamp (show c < 2 ^ 31 by omega)]
      exact lf_c154 hc Q hQ (fun a5 => h0 a3 a5 h3) (fun a4' a5' => H a3 a4' a5') 7 0 _ (by omega) (by omega) pk_us (lf_one h5)
    · refine br_f (nI_pos (by omega)) (br_t rfl (lf_c117 hj (ih _ _ _ (lf_dn_s hj (by omega)) ?_ (lf_one h5))))
      by_cases e : c = j
      · rw [e, pk_us]
      · rw [pk_un e]
        exact h3
/-- the loop's entry: the cell itself is solid now -/
theorem lf_c93e {x y : Int32} {a3 a4 a5 a6 a7 : Nat → Int32} (hc : c < 216) (ha : ¬ a1 c = 0) (Q : (Nat → Int32) → Prop) (hQ : lf_Cl a1 Q)
    (h0 : ∀ a3 a5 : Nat → Int32, a3 c = 0 → a5 c = 1 → a5 (216 + c) = 1 → Q (lf_own a2 a3 a5 432 a4))
    (H : ∀ a3 a4' a5', Q a4' → post (x, a1, a2, a3, a4', a5', a6, a7, a8, a9)) : ∃ n, wX_change_93 post (nI c) x n y (nI c) a1 a2 a3 a4 a5 a6 a7 a8 a9 := by
  have t : wX_change_116 post (wX_change_93 post (nI c) x 300) (nI c) (nI c) x a1 a2 a3 a4 a5 a6 a7 a8 a9 :=
    lf_c117 hc (lf_c93 hc Q hQ h0 H 300 _ _ _ (lf_dn_s hc (by omega)) pk_us pk_us)
  refine ⟨301, br_f (nI_pos (by omega)) (br_c (fun _ => t) (fun _ => ⟨pk_in c 216 hc, br_f ?_ t⟩))⟩
  rw [nI_clamp (show c < 2 ^ 31 by omega)]
  exact ha
theorem lf_c27 {a3 : Nat → Int32} (hc : c < 216) (hv : v ≤ 12) (h2 : a2 c = nI v)
    (H : ∀ x a3 a4 a5 a6 a7, lf_St a6 → a4 c = nI v → a4 (216 + c) = 0 → post (x, upd a1 c 1, a2, a3, a4, a5, a6, a7, a8, a9)) :
    ∀ n y x a4 a5 a6 a7, lf_dn n y → lf_St a6 → a4 c = 0 → a4 (216 + c) = 0 → wX_change_27 post (nI c) 1 n y x a1 a2 a3 a4 a5 a6 a7 a8 a9 := by
  intro n
  induction n with
  | zero => intro y x a4 a5 a6 a7 hd; rcases hd with ⟨_, h⟩ | ⟨j, _, _, h⟩ <;> exact absurd h (by omega)
  | succ n ih =>
    intro y x a4 a5 a6 a7 hd hs h4 h8
    rcases hd with ⟨hy, _⟩ | ⟨j, hj, rfl, hn⟩
    · have S : ¬ upd a1 c 1 c = 0 := by rw [pk_us]; decide
      have E : ∀ z : Int32, ∃ m, wX_change_93 post (nI c) x m z (nI c) (upd a1 c 1) a2 a3 a4 a5 a6 a7 a8 a9 := fun z =>
        lf_c93e hc S (fun a => a (0 + c) = nI v ∧ a (216 + c) = 0) (lf_Cl_and (lf_Cl_solid (Or.inl rfl) hc S) (lf_Cl_solid (Or.inr rfl) hc S))
          (fun a3 a5 z3 z5 z8 => by
            refine ⟨?_, ?_⟩
            · rw [Nat.zero_add, lf_own_gr (by omega) (by rw [z5]; decide) (by rw [lf_src_lo hc, h4, h2]; exact nI_pos' (by omega)), lf_src_lo hc, h2]
            · rw [lf_own_sm (by rw [lf_src_hi, if_pos z3, h8]; decide), h8])
          (fun a3 a4' a5' hq => H x a3 a4' a5' a6 a7 hs (by have := hq.1; rw [Nat.zero_add] at this; exact this) hq.2)
      refine br_t hy ⟨pk_in c 216 hc, ?_⟩
      have e36 : nI c + 36 = nI (c + 36) := nI_add c 36
      rw [nI_clamp (show c < 2 ^ 31 by omega), lf_nar1, e36]
      exact nm_e (pk_le 216 (c + 36) (fun _ => E 1) (fun g => ⟨pk_in (c + 36) 216 g, br_c (fun _ => E 0) (fun _ => E 1)⟩))
    · refine br_f (nI_pos (by omega)) ⟨pk_in j 216 hj, br_c (fun _ => nm_e (ih _ _ _ _ _ _ (lf_dn_s hj (by omega)) hs h4 h8)) (fun _ => ?_)⟩
      rw [lf_216]
      refine lf_take (by omega) hs (fun x' a4' a5' a6' a7' hs' _ hr _ => ?_)
      dsimp only
      exact nm_e (ih _ _ _ _ _ _ (lf_dn_s hj (by omega)) hs' ((hr c).elim id (fun e => e.trans h4)) ((hr (216 + c)).elim id (fun e => e.trans h8)))
theorem lf_change1 {x : Int32} {a3 a4 a5 a6 a7 : Nat → Int32} (hc : c < 216) (hv : v ≤ 12) (h1 : a1 c = 0) (h2 : a2 c = nI v) (hs : lf_St a6)
    (H : ∀ x a3 a4 a5 a6 a7, lf_St a6 → a4 c = nI v → a4 (216 + c) = 0 → post (x, upd a1 c 1, a2, a3, a4, a5, a6, a7, a8, a9)) : wpX_change post (x, a1, a2, a3, a4, a5, a6, a7, a8, a9) (nI c) 1 := by
  unfold wpX_change
  dsimp only
  rw [nI_clamp (show c < 2 ^ 31 by omega), lf_216]
  refine ⟨pk_in c 216 hc, br_f (by rw [h1]; decide) ?_⟩
  refine lf_take (by omega) hs (fun x' a4' a5' a6' a7' hs' hz _ _ => ?_)
  dsimp only
  refine lf_take (by omega) hs' (fun x'' a4'' a5'' a6'' a7'' hs'' hz' hr _ => ?_)
  dsimp only
  exact ⟨300, lf_c27 hc hv h2 H 300 _ _ _ _ _ _ (Or.inr ⟨c, hc, rfl, by omega⟩) hs'' ((hr c).elim id (fun e => e.trans hz)) hz'⟩
end
section
variable {x : Int32} {a1 a2 a3 a4 a5 a6 a7 a8 a9 : Nat → Int32} {c : Nat}
theorem lf_solidN {post : Int32 → St2 → Prop} {u : St2} {y z : Int32} (h : z < 0 ∨ 216 ≤ z) (H : post (-1) u) : wpX_solid post u z y := by
  obtain ⟨x, a1, a2, a3, a4, a5, a6, a7, a8, a9⟩ := u
  unfold wpX_solid
  dsimp only
  exact lf_cellN h (br_t rfl H)
theorem lf_solid {post : Int32 → St2 → Prop} {v : Nat} {y : Int32} (hc : c < 216) (hv : v ≤ 12) (h1 : a1 c = 0) (h2 : a2 c = nI v) (h4 : a4 c = nI v) (h8 : a4 (216 + c) = 8) (hs : lf_St a6)
    (H : ∀ x a1 a3 a4 a5 a6 a7, (y = 0 ∧ a1 c = 0 ∧ a4 (216 + c) = 8 ∨ ¬ y = 0 ∧ a1 c = 1 ∧ a4 (216 + c) = 0) → a4 c = nI v → lf_St a6 → post 0 (x, a1, a2, a3, a4, a5, a6, a7, a8, a9)) :
    wpX_solid post (x, a1, a2, a3, a4, a5, a6, a7, a8, a9) (nI c) y := by
  unfold wpX_solid
  dsimp only
  rw [nI_clamp (show c < 2 ^ 31 by omega)]
  refine lf_cellY hc (br_f (by decide) ⟨pk_in c 216 hc, br_t h1 (br_c (fun e => ?_) (fun e => ?_))⟩)
  · unfold wX_solid_35 wpX_change
    dsimp only
    rw [nI_clamp (show c < 2 ^ 31 by omega)]
    exact ⟨pk_in c 216 hc, br_t h1 (H x a1 a3 a4 a5 a6 a7 (Or.inl ⟨e, h1, h8⟩) h4 hs)⟩
  · exact lf_change1 hc hv h1 h2 hs (fun x' a3' a4' a5' a6' a7' hs' e4 e8 => H _ _ _ _ _ _ _ (Or.inr ⟨e, pk_us, e8⟩) e4 hs')
theorem lf_isSolidN {ps : Int32 → Prop} {u : St2} {z : Int32} (h : z < 0 ∨ 216 ≤ z) (H : ps (-1)) : wpX_isSolid ps u z := by
  obtain ⟨x, a1, a2, a3, a4, a5, a6, a7, a8, a9⟩ := u
  unfold wpX_isSolid
  dsimp only
  exact lf_cellN h (br_t rfl H)
theorem lf_isSolidY {ps : Int32 → Prop} (hc : c < 216) (H0 : a1 c = 0 → ps 0) (H1 : ¬ a1 c = 0 → ps 1) : wpX_isSolid ps (x, a1, a2, a3, a4, a5, a6, a7, a8, a9) (nI c) := by
  unfold wpX_isSolid
  dsimp only
  rw [nI_clamp (show c < 2 ^ 31 by omega)]
  exact lf_cellY hc (br_f (by decide) ⟨pk_in c 216 hc, br_c H0 H1⟩)
theorem lf_lightN {ps : Int32 → Prop} {u : St2} {z : Int32} (h : z < 0 ∨ 216 ≤ z) (H : ps (-1)) : wpX_lamplight ps u z := by
  obtain ⟨x, a1, a2, a3, a4, a5, a6, a7, a8, a9⟩ := u
  unfold wpX_lamplight
  dsimp only
  exact lf_cellN h (br_t rfl H)
theorem lf_lightY {ps : Int32 → Prop} (hc : c < 216) (H : ps (a4 c)) : wpX_lamplight ps (x, a1, a2, a3, a4, a5, a6, a7, a8, a9) (nI c) := by
  unfold wpX_lamplight
  dsimp only
  rw [nI_clamp (show c < 2 ^ 31 by omega)]
  exact lf_cellY hc (br_f (by decide) ⟨pk_in c 432 (by omega), H⟩)
theorem lf_skyN {ps : Int32 → Prop} {u : St2} {z : Int32} (h : z < 0 ∨ 216 ≤ z) (H : ps (-1)) : wpX_skylight ps u z := by
  obtain ⟨x, a1, a2, a3, a4, a5, a6, a7, a8, a9⟩ := u
  unfold wpX_skylight
  dsimp only
  exact lf_cellN h (br_t rfl H)
theorem lf_skyY {ps : Int32 → Prop} (hc : c < 216) (H : ps (a4 (216 + c))) : wpX_skylight ps (x, a1, a2, a3, a4, a5, a6, a7, a8, a9) (nI c) := by
  unfold wpX_skylight
  dsimp only
  rw [lf_216, nI_clamp (show 216 + c < 2 ^ 31 by omega)]
  exact lf_cellY hc (br_f (by decide) ⟨pk_in (216 + c) 432 (by omega), H⟩)
end
end
section
/-! ===== 05: the law ===== -/
section
variable {post : Int32 → St0 → Prop} {mc ms kc ks : Nat} {x x1 x2 x4 y0 : Int32} {a1 a2 a3 a4 a5 a6 a7 a8 a9 : Nat → Int32} {c v : Nat}
theorem lf_w228 {z : Int32} (hp : post 1 ()) : wL_lawOf_228 post mc ms z z kc ks := br_t rfl hp
theorem lf_w194Y (hp : post 1 ()) (hc : c < 216) (h2 : a2 c = nI v) (hs : lf_St a6) (hx : x4 = 0 ∧ v = 0 ∨ ¬ x4 = 0 ∧ x1 = nI v) {z : Int32} :
    wL_lawOf_194 post mc ms (nI c) x1 1 x4 z z kc ks x a1 a2 a3 a4 a5 a6 a7 a8 a9 := by
  refine br_t rfl (lf_lampC hc hs (fun x' a1' a2' a3' a4' a5' a6' a7' a8' a9' => ?_))
  dsimp only
  rw [h2]
  refine br_f (by decide) ?_
  rcases hx with ⟨e, rfl⟩ | ⟨e, rfl⟩
  · exact br_t e (lf_w228 hp)
  · exact br_f e (lf_w228 hp)
theorem lf_w106Y (hp : post 1 ()) (hc : c < 216) (h2 : a2 c = nI v) (h4 : a4 c = nI v) (hs : lf_St a6) (hx : x4 = 0 ∧ v = 0 ∨ ¬ x4 = 0 ∧ x1 = nI v)
    {x8 z : Int32} (hy : x2 = 0 ∧ x8 = 0 ∧ a4 (216 + c) = 8 ∨ ¬ x2 = 0 ∧ x8 = 1 ∧ a4 (216 + c) = 0) :
    wL_lawOf_106 post mc ms (nI c) x1 x2 1 x4 x8 z z kc ks x a1 a2 a3 a4 a5 a6 a7 a8 a9 := by
  have t : ∀ z : Int32, wL_lawOf_128 post mc ms (nI c) x1 x2 1 x4 z z kc ks x a1 a2 a3 a4 a5 a6 a7 a8 a9 := by
    intro z
    refine br_t rfl (lf_lightY hc (lf_skyY hc ?_))
    have t2 : ∀ z : Int32, wL_lawOf_169 post mc ms (nI c) x1 x2 1 x4 (a4 (216 + c)) z z kc ks x a1 a2 a3 a4 a5 a6 a7 a8 a9 := by
      intro z
      refine br_t rfl (br_f (by decide) ?_)
      rcases hy with ⟨e, _, e8⟩ | ⟨e, _, e8⟩
      · rw [e8]
        exact br_t e (lf_w194Y hp hc h2 hs hx)
      · rw [e8]
        exact br_f e (lf_w194Y hp hc h2 hs hx)
    rw [h4]
    refine br_f (by decide) ?_
    rcases hx with ⟨e, rfl⟩ | ⟨e, rfl⟩
    · exact br_t e (t2 0)
    · exact br_f e (t2 (nI v))
  refine br_t rfl (br_f (by decide) ?_)
  rcases hy with ⟨e, rfl, _⟩ | ⟨e, rfl, _⟩
  · exact br_t e (t 0)
  · exact br_f e (t 1)
theorem lf_w73Y (hp : post 1 ()) (hc : c < 216) (hv : v ≤ 12) (h1 : a1 c = 0) (h2 : a2 c = nI v) (h4 : a4 c = nI v) (h8 : a4 (216 + c) = 8) (hs : lf_St a6) (hx : x4 = 0 ∧ v = 0 ∨ ¬ x4 = 0 ∧ x1 = nI v) {z : Int32} :
    wL_lawOf_73 post mc ms (nI c) x1 x2 1 x4 z z kc ks x a1 a2 a3 a4 a5 a6 a7 a8 a9 := by
  refine br_t rfl (lf_solid hc hv h1 h2 h4 h8 hs (fun x a1 a3 a4 a5 a6 a7 hy h4 hs => ?_))
  dsimp only
  refine lf_isSolidY hc (fun e => br_f (by decide) (lf_w106Y hp hc h2 h4 hs hx ?_)) (fun e => br_f (by decide) (lf_w106Y hp hc h2 h4 hs hx ?_))
  · rcases hy with ⟨h, _, h8⟩ | ⟨_, h, _⟩
    · exact Or.inl ⟨h, rfl, h8⟩
    · rw [h] at e
      exact absurd e (by decide)
  · rcases hy with ⟨_, h, _⟩ | ⟨h, _, h8⟩
    · exact absurd h e
    · exact Or.inr ⟨h, rfl, h8⟩
/-- a cell of the block -/
theorem lf_w32Y (hp : post 1 ()) (hc : c < 216) (hm : kc + 10 ≤ mc) (hk : ks + 2818 ≤ ms) (hx : x4 = 0 ∧ (x1 < 0 ∨ 12 < x1) ∨ ¬ x4 = 0 ∧ ∃ v : Nat, v ≤ 12 ∧ x1 = nI v) :
    wL_lawOf_32 post mc ms (nI c) x1 x2 1 x4 kc ks := by
  refine ⟨by omega, by omega, 9, 2808, by omega, by omega, lf_init (by omega) (by omega) (fun a3 a4 z4 z8 => ?_)⟩
  dsimp only
  rcases hx with ⟨e, h⟩ | ⟨e, v, hv, rfl⟩
  · refine lf_lampX hc h ?_
    dsimp only
    exact br_f (by decide) (br_t e (lf_w73Y (v := 0) hp hc (by omega) rfl rfl (z4 c hc) (z8 c hc) lf_St0 (Or.inl ⟨e, rfl⟩)))
  · refine lf_lampA hc hv lf_St0 (fun _ => rfl) z4 z8 (fun x' a4' a5' a6' a7' hs' e4 e8 => ?_)
    dsimp only
    exact br_f (by decide) (br_f e (lf_w73Y (v := v) hp hc hv rfl pk_us e4 e8 hs' (Or.inr ⟨e, rfl⟩)))
/-- no cell of the block: every answer is -1 -/
theorem lf_w32N (hp : post 1 ()) (h : y0 < 0 ∨ 216 ≤ y0) (hm : kc + 10 ≤ mc) (hk : ks + 2818 ≤ ms) : wL_lawOf_32 post mc ms y0 x1 x2 0 x4 kc ks := by
  refine ⟨by omega, by omega, 9, 2808, by omega, by omega, lf_init (by omega) (by omega) (fun a3 a4 z4 z8 => ?_)⟩
  dsimp only
  refine lf_lampN h ?_
  dsimp only
  refine br_t rfl (br_t rfl (lf_solidN h ?_))
  dsimp only
  refine lf_isSolidN h (br_t rfl (br_t rfl (br_t rfl (br_t rfl (lf_lightN h ?_)))))
  refine lf_skyN h ?_
  refine br_t rfl (br_t rfl (br_t rfl (br_t rfl (lf_lampN h ?_))))
  dsimp only
  exact br_t rfl (lf_w228 hp)
theorem lf_w16Y (hp : post 1 ()) (hc : c < 216) (hm : kc + 10 ≤ mc) (hk : ks + 2818 ≤ ms) : wL_lawOf_16 post mc ms (nI c) x1 x2 1 kc ks := by
  refine br_c (fun g => lf_w32Y hp hc hm hk (Or.inl ⟨rfl, Or.inl g⟩)) (fun g => br_c (fun g2 => lf_w32Y hp hc hm hk (Or.inl ⟨rfl, Or.inr g2⟩)) (fun g2 => ?_))
  refine lf_w32Y hp hc hm hk (Or.inr ⟨by decide, ?_⟩)
  exact nI_of2 (M := 12) (n := 12) (by decide) g (Int32.not_lt.mp g2)
theorem lf_w15N (hp : post 1 ()) (h : y0 < 0 ∨ 216 ≤ y0) (hm : kc + 10 ≤ mc) (hk : ks + 2818 ≤ ms) : wL_lawOf_15 post mc ms y0 x1 x2 kc ks :=
  br_c (fun g => lf_w32N hp h hm hk) (fun g => br_c (fun g2 => lf_w32N hp h hm hk) (fun g2 => lf_w32N hp h hm hk))
theorem lf_lawOf (hp : post 1 ()) (hm : 10 ≤ mc) (hk : 2818 ≤ ms) : wpL_lawOf post mc ms () y0 x1 x2 := by
  refine br_c (fun g => lf_w15N hp (Or.inl g) (by omega) (by omega)) (fun g => br_c (fun g2 => lf_w15N hp (Or.inr ?_) (by omega) (by omega)) (fun g2 => ?_))
  · obtain ⟨j, hj, rfl⟩ := nI_of g
    have t : 215 < j := (nI_ltI (by omega) hj).mp g2
    exact nI_le (a := 216) (by omega) hj
  · obtain ⟨j, hj, rfl⟩ := nI_of2 (M := 215) (n := 215) (by decide) g (Int32.not_lt.mp g2)
    exact lf_w16Y hp (by omega) (by omega) (by omega)
end
theorem lf_cellAt {post : Int32 → Prop} {L : Nat} {xs : Nat → Int32} (hL : L ≤ 3) (k : Nat) (hk : k < 3) (H : ∀ y, post y) : wpL_cellAt post L xs () (nI k) :=
  pk_le L k (fun _ => H 0) (fun g => ⟨pk_in k L g, H _⟩)
theorem i_vc (xs : Nat → Int32) (L : Nat) (hL : L ≤ 3) : wpL_law (fun r => r = 1) L xs :=
  lf_cellAt hL 0 (by omega) (fun y0 => lf_cellAt hL 1 (by omega) (fun y1 => lf_cellAt hL 2 (by omega) (fun y2 =>
    ⟨1024, 16384, by omega, by omega, lf_lawOf rfl (by omega) (by omega)⟩)))
end
