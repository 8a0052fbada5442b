section
/-- a tree of c nodes: p the parents, d the depths; every parent has a smaller number, a depth is at most its node's number -/
def lc_T (c : Nat) (p d : Nat → Nat) : Prop := d 0 = 0 ∧ ∀ i, 0 < i → i < c → p i < i ∧ d i = d (p i) + 1 ∧ d i ≤ i
/-- the reference, from the pair x, y, meets in l after k single lifts of the larger number -/
def lc_R (p : Nat → Nat) (l : Nat) : Nat → Nat → Nat → Prop
  | 0, x, y => x = l ∧ y = l
  | k + 1, x, y => x ≠ y ∧ ((x ≤ y ∧ lc_R p l k x (p y)) ∨ (y < x ∧ lc_R p l k (p x) y))
theorem lc_R0 {p : Nat → Nat} {l x y : Nat} (h : lc_R p l 0 x y) : x = l ∧ y = l := h
theorem lc_RS {p : Nat → Nat} {l k x y : Nat} (h : lc_R p l (k + 1) x y) : x ≠ y ∧ ((x ≤ y ∧ lc_R p l k x (p y)) ∨ (y < x ∧ lc_R p l k (p x) y)) := h
theorem lc_Ri {p : Nat → Nat} {l k x y : Nat} (h : x ≠ y ∧ ((x ≤ y ∧ lc_R p l k x (p y)) ∨ (y < x ∧ lc_R p l k (p x) y))) : lc_R p l (k + 1) x y := h
/-- equal numbers: nothing is left to do -/
theorem lc_Rx {p : Nat → Nat} {l k x : Nat} (h : lc_R p l k x x) : k = 0 ∧ x = l := by
  cases k with
  | zero => exact ⟨rfl, (lc_R0 h).1⟩
  | succ k => exact absurd rfl (lc_RS h).1
/-- the reference always meets -/
theorem lc_ex {c : Nat} {p d : Nat → Nat} (T : lc_T c p d) : ∀ n x y, x + y < n → x < c → y < c → ∃ l k, lc_R p l k x y := by
  intro n
  induction n with
  | zero => intro x y h; omega
  | succ n ih =>
    intro x y h hx hy
    by_cases e : x = y
    · exact ⟨x, 0, rfl, e.symm⟩
    · by_cases g : x ≤ y
      · have t := (T.2 y (by omega) hy).1
        obtain ⟨l, k, r⟩ := ih x (p y) (by omega) hx (by omega)
        exact ⟨l, k + 1, lc_Ri ⟨e, Or.inl ⟨g, r⟩⟩⟩
      · have t := (T.2 x (by omega) hx).1
        obtain ⟨l, k, r⟩ := ih (p x) y (by omega) (by omega) hy
        exact ⟨l, k + 1, lc_Ri ⟨e, Or.inr ⟨by omega, r⟩⟩⟩
/-- of two different nodes the one that is at least as deep is not the root -/
theorem lc_pos {c : Nat} {p d : Nat → Nat} (T : lc_T c p d) {x y : Nat} (hy : y < c) (hd : d y ≤ d x) (hn : x ≠ y) : 0 < x := by
  rcases Nat.eq_zero_or_pos x with e | e
  · have h0 := T.1
    have h1 := (T.2 y (by omega) hy).2.1
    rw [e, h0] at hd
    omega
  · exact e
theorem lc_le {c : Nat} {p d : Nat → Nat} (T : lc_T c p d) {x : Nat} (hx : x < c) : d x ≤ x := by
  rcases Nat.eq_zero_or_pos x with e | e
  · rw [e, T.1]; exact Nat.le_refl _
  · exact (T.2 x e hx).2.2
/-- lifting the left node, if it is at least as deep, takes one off the reference's count -/
theorem lc_L {c : Nat} {p d : Nat → Nat} (T : lc_T c p d) {l : Nat} : ∀ k x y, x < c → y < c → d y ≤ d x → x ≠ y → lc_R p l k x y → ∃ m, k = m + 1 ∧ lc_R p l m (p x) y := by
  intro k
  induction k with
  | zero => intro x y hx hy hd hn r; exact absurd ((lc_R0 r).1.trans (lc_R0 r).2.symm) hn
  | succ k ih =>
    intro x y hx hy hd hn r
    have h0 := lc_pos T hy hd hn
    have tx := T.2 x h0 hx
    rcases (lc_RS r).2 with ⟨g, r⟩ | ⟨g, r⟩
    · have ty := T.2 y (by omega) hy
      have hne : x ≠ p y := by
        intro e
        rw [← e] at ty
        omega
      obtain ⟨m, rfl, r2⟩ := ih x (p y) hx (by omega) (by omega) hne r
      exact ⟨m + 1, rfl, lc_Ri ⟨by omega, Or.inl ⟨by omega, r2⟩⟩⟩
    · exact ⟨k, rfl, r⟩
/-- the same on the right -/
theorem lc_Q {c : Nat} {p d : Nat → Nat} (T : lc_T c p d) {l : Nat} : ∀ k x y, x < c → y < c → d x ≤ d y → x ≠ y → lc_R p l k x y → ∃ m, k = m + 1 ∧ lc_R p l m x (p y) := by
  intro k
  induction k with
  | zero => intro x y hx hy hd hn r; exact absurd ((lc_R0 r).1.trans (lc_R0 r).2.symm) hn
  | succ k ih =>
    intro x y hx hy hd hn r
    have h0 := lc_pos T hx hd (Ne.symm hn)
    have ty := T.2 y h0 hy
    rcases (lc_RS r).2 with ⟨g, r⟩ | ⟨g, r⟩
    · exact ⟨k, rfl, r⟩
    · have tx := T.2 x (by omega) hx
      have hne : p x ≠ y := by
        intro e
        rw [e] at tx
        omega
      obtain ⟨m, rfl, r2⟩ := ih (p x) y (by omega) hy (by omega) hne r
      exact ⟨m + 1, rfl, lc_Ri ⟨by omega, Or.inr ⟨by omega, r2⟩⟩⟩
/-- a new leaf c under j -/
theorem lc_grow {c : Nat} {p d : Nat → Nat} (T : lc_T c p d) (h1 : 1 ≤ c) {j : Nat} (hj : j < c) : lc_T (c + 1) (fun i => if i = c then j else p i) (fun i => if i = c then d j + 1 else d i) := by
  refine And.intro ?_ ?_
  · show (if 0 = c then d j + 1 else d 0) = 0
    rw [if_neg (by omega)]
    exact T.1
  · intro i hi hc
    have hjl := lc_le T hj
    show (if i = c then j else p i) < i ∧ (if i = c then d j + 1 else d i) = (if (if i = c then j else p i) = c then d j + 1 else d (if i = c then j else p i)) + 1 ∧ (if i = c then d j + 1 else d i) ≤ i
    by_cases e : i = c
    · rw [if_pos e, if_pos e, if_neg (by omega)]
      exact ⟨by omega, rfl, by omega⟩
    · have t := T.2 i hi (by omega)
      rw [if_neg e, if_neg e, if_neg (by omega)]
      exact t
end
section
theorem lc_vs : ∀ j, j < 8 → vp_nar .short (nI j).toInt16.toInt32 = nI j := by
  intro j hj
  rw [vp_nar_short]
  revert j
  decide +kernel
theorem lc_vb : ∀ j, j < 8 → vp_nar .byte ((nI j + 1).toInt8.toInt32) = nI (j + 1) := by
  intro j hj
  rw [vp_nar_byte]
  revert j
  decide +kernel
theorem lc_i2 (s : Nat) : nI s + 2 = nI (s + 2) := nI_add s 2
/-- the arrays of both sides against the tree -/
def lc_A (c : Nat) (p d : Nat → Nat) (a e : Nat → Int32) : Prop := (∀ i, 0 < i → i < c → a i = nI (p i)) ∧ (∀ i, i < c → e i = nI (d i))
theorem lc_ap {c : Nat} {p d : Nat → Nat} {a e : Nat → Int32} (H : lc_A c p d a e) (hc : c ≤ 8) {x : Nat} (h0 : 0 < x) (hx : x < c) : a (nI x).toNatClampNeg = nI (p x) := by
  rw [nI_clamp (by omega)]; exact H.1 x h0 hx
theorem lc_ad {c : Nat} {p d : Nat → Nat} {a e : Nat → Int32} (H : lc_A c p d a e) (hc : c ≤ 8) {x : Nat} (hx : x < c) : e (nI x).toNatClampNeg = nI (d x) := by
  rw [nI_clamp (by omega)]; exact H.2 x hx
/-- a branch on two depths -/
theorem lc_br {c : Nat} {p d : Nat → Nat} {a e : Nat → Int32} (T : lc_T c p d) (H : lc_A c p d a e) (hc : c ≤ 8) {x y : Nat} (hx : x < c) (hy : y < c) {A B : Prop} (f : d x ≤ d y → A) (g : d y < d x → B) : (e (nI x).toNatClampNeg ≤ e (nI y).toNatClampNeg → A) ∧ (¬ e (nI x).toNatClampNeg ≤ e (nI y).toNatClampNeg → B) := by
  have h1 := lc_le T hx
  have h2 := lc_le T hy
  rw [lc_ad H hc hx, lc_ad H hc hy, nI_leI (by omega) (by omega)]
  exact ⟨f, fun h => g (by omega)⟩
theorem lc_in {c x : Nat} (hc : c ≤ 8) (hx : x < c) : vp_in (nI x) 8 := vp_in_nI (by omega) (by decide)
theorem lc_ne {c x y : Nat} (hc : c ≤ 8) (hx : x < c) (hy : y < c) (h : x ≠ y) : ¬ nI x = nI y := fun g => h ((nI_eq (by omega) (by omega)).mp g)
/-- the reference's loop -/
theorem lc_y29 {c : Nat} {p d : Nat → Nat} {a e : Nat → Int32} (T : lc_T c p d) (H : lc_A c p d a e) (hc : c ≤ 8) {post : Int32 → Prop} {x3 f : Int32} {l : Nat} : ∀ k x y s, x < c → y < c → lc_R p l k x y → (x3 = 0 → post (nI l)) → (¬ x3 = 0 → post (nI (s + k))) → wY_walk_29 post x3 f a (k + 1) (nI x) (nI y) (nI s) := by
  intro k
  induction k with
  | zero =>
    intro x y s hx hy r h0 h1
    obtain ⟨rfl, rfl⟩ := lc_R0 r
    exact br_t rfl ⟨h0, h1⟩
  | succ k ih =>
    intro x y s hx hy r h0 h1
    obtain ⟨hn, r⟩ := lc_RS r
    have h1' : ¬ x3 = 0 → post (nI (s + 1 + k)) := by
      rw [show s + 1 + k = s + (k + 1) by omega]; exact h1
    refine br_f (lc_ne hc hx hy hn) ?_
    rcases r with ⟨g, r⟩ | ⟨g, r⟩
    · have t := (T.2 y (by omega) hy).1
      exact br_t (nI_le g (by omega)) ⟨lc_in hc hy, nm_r (lc_ap H hc (by omega) hy) (nm_r (nI_1 s) (ih x (p y) (s + 1) hx (by omega) r h0 h1'))⟩
    · have t := (T.2 x (by omega) hx).1
      exact br_f (nI_ge g (by omega)) ⟨lc_in hc hx, nm_r (lc_ap H hc (by omega) hx) (nm_r (nI_1 s) (ih (p x) y (s + 1) (by omega) hy r h0 h1'))⟩
/-- lca: the third loop -/
theorem lc_x85 {c : Nat} {p d : Nat → Nat} {a e : Nat → Int32} (T : lc_T c p d) (H : lc_A c p d a e) (hc : c ≤ 8) {post : Int32 → Prop} {f : Int32} {l : Nat} (hp : post (nI l)) : ∀ n k x y, k < n → x < c → y < c → d x = d y → lc_R p l k x y → wX_lca_85 post f a e n (nI x) (nI y) := by
  intro n
  induction n with
  | zero => intro k x y h; omega
  | succ n ih =>
    intro k x y h hx hy hd r
    by_cases g : x = y
    · subst g
      refine br_t rfl ?_
      rw [(lc_Rx r).2]; exact hp
    · have hx0 := lc_pos T hy (by omega) g
      have hy0 := lc_pos T hx (by omega) (Ne.symm g)
      have tx := T.2 x hx0 hx
      have ty := T.2 y hy0 hy
      obtain ⟨m1, rfl, r1⟩ := lc_L T k x y hx hy (by omega) g r
      have hn : p x ≠ y := by
        intro q
        rw [q] at tx
        omega
      obtain ⟨m2, rfl, r2⟩ := lc_Q T m1 (p x) y (by omega) hy (by omega) hn r1
      exact br_f (lc_ne hc hx hy g) ⟨lc_in hc hx, nm_r (lc_ap H hc hx0 hx) ⟨lc_in hc hy, nm_r (lc_ap H hc hy0 hy) (ih m2 (p x) (p y) (by omega) (by omega) (by omega) (by omega) r2)⟩⟩
/-- lca: the second loop -/
theorem lc_x57 {c : Nat} {p d : Nat → Nat} {a e : Nat → Int32} (T : lc_T c p d) (H : lc_A c p d a e) (hc : c ≤ 8) {post : Int32 → Prop} {f : Int32} {l : Nat} (hp : post (nI l)) {x : Nat} (hx : x < c) : ∀ n k y, k < n → y < c → d x ≤ d y → lc_R p l k x y → wX_lca_57 post (nI x) f a e n (nI y) := by
  intro n
  induction n with
  | zero => intro k y h; omega
  | succ n ih =>
    intro k y h hy hd r
    refine And.intro (lc_in hc hy) (And.intro (lc_in hc hx) (lc_br T H hc hy hx (fun g => ?_) (fun g => ?_)))
    · exact ⟨k + 1, lc_x85 T H hc hp (k + 1) k x y (by omega) hx hy (by omega) r⟩
    · have hn : x ≠ y := by
        intro q
        rw [q] at g
        omega
      have hy0 := lc_pos T hx (by omega) (Ne.symm hn)
      have ty := T.2 y hy0 hy
      obtain ⟨m1, rfl, r1⟩ := lc_Q T k x y hx hy (by omega) hn r
      exact ⟨lc_in hc hy, nm_r (lc_ap H hc hy0 hy) (ih m1 (p y) (by omega) (by omega) (by omega) r1)⟩
/-- lca: the first loop -/
theorem lc_x31 {c : Nat} {p d : Nat → Nat} {a e : Nat → Int32} (T : lc_T c p d) (H : lc_A c p d a e) (hc : c ≤ 8) {post : Int32 → Prop} {f : Int32} {l : Nat} (hp : post (nI l)) {y : Nat} (hy : y < c) : ∀ n k x, k < n → x < c → lc_R p l k x y → wX_lca_31 post (nI y) f a e n (nI x) := by
  intro n
  induction n with
  | zero => intro k x h; omega
  | succ n ih =>
    intro k x h hx r
    refine And.intro (lc_in hc hx) (And.intro (lc_in hc hy) (lc_br T H hc hx hy (fun g => ?_) (fun g => ?_)))
    · exact ⟨k + 1, lc_x57 T H hc hp hx (k + 1) k y (by omega) hy g r⟩
    · have hn : x ≠ y := by
        intro q
        rw [q] at g
        omega
      have hx0 := lc_pos T hy (by omega) hn
      have tx := T.2 x hx0 hx
      obtain ⟨m1, rfl, r1⟩ := lc_L T k x y hx hy (by omega) hn r
      exact ⟨lc_in hc hx, nm_r (lc_ap H hc hx0 hx) (ih m1 (p x) (by omega) (by omega) r1)⟩
/-- hops: the third loop -/
theorem lc_x100 {c : Nat} {p d : Nat → Nat} {a e : Nat → Int32} (T : lc_T c p d) (H : lc_A c p d a e) (hc : c ≤ 8) {post : Int32 → Prop} {f : Int32} {l : Nat} : ∀ n k x y s, k < n → x < c → y < c → d x = d y → lc_R p l k x y → post (nI (s + k)) → wX_hops_100 post f a e n (nI x) (nI y) (nI s) := by
  intro n
  induction n with
  | zero => intro k x y s h; omega
  | succ n ih =>
    intro k x y s h hx hy hd r hp
    by_cases g : x = y
    · subst g
      refine br_t rfl ?_
      rw [(lc_Rx r).1] at hp
      exact hp
    · have hx0 := lc_pos T hy (by omega) g
      have hy0 := lc_pos T hx (by omega) (Ne.symm g)
      have tx := T.2 x hx0 hx
      have ty := T.2 y hy0 hy
      obtain ⟨m1, rfl, r1⟩ := lc_L T k x y hx hy (by omega) g r
      have hn : p x ≠ y := by
        intro q
        rw [q] at tx
        omega
      obtain ⟨m2, rfl, r2⟩ := lc_Q T m1 (p x) y (by omega) hy (by omega) hn r1
      rw [show s + (m2 + 1 + 1) = s + 2 + m2 by omega] at hp
      exact br_f (lc_ne hc hx hy g) ⟨lc_in hc hx, nm_r (lc_ap H hc hx0 hx) ⟨lc_in hc hy, nm_r (lc_ap H hc hy0 hy) (nm_r (lc_i2 s) (ih m2 (p x) (p y) (s + 2) (by omega) (by omega) (by omega) (by omega) r2 hp))⟩⟩
/-- hops: the second loop -/
theorem lc_x66 {c : Nat} {p d : Nat → Nat} {a e : Nat → Int32} (T : lc_T c p d) (H : lc_A c p d a e) (hc : c ≤ 8) {post : Int32 → Prop} {f : Int32} {l : Nat} {x : Nat} (hx : x < c) : ∀ n k y s, k < n → y < c → d x ≤ d y → lc_R p l k x y → post (nI (s + k)) → wX_hops_66 post (nI x) f a e n (nI y) (nI s) := by
  intro n
  induction n with
  | zero => intro k y s h; omega
  | succ n ih =>
    intro k y s h hy hd r hp
    refine And.intro (lc_in hc hy) (And.intro (lc_in hc hx) (lc_br T H hc hy hx (fun g => ?_) (fun g => ?_)))
    · exact ⟨k + 1, lc_x100 T H hc (k + 1) k x y s (by omega) hx hy (by omega) r hp⟩
    · have hn : x ≠ y := by
        intro q
        rw [q] at g
        omega
      have hy0 := lc_pos T hx (by omega) (Ne.symm hn)
      have ty := T.2 y hy0 hy
      obtain ⟨m1, rfl, r1⟩ := lc_Q T k x y hx hy (by omega) hn r
      rw [show s + (m1 + 1) = s + 1 + m1 by omega] at hp
      exact ⟨lc_in hc hy, nm_r (lc_ap H hc hy0 hy) (nm_r (nI_1 s) (ih m1 (p y) (s + 1) (by omega) (by omega) (by omega) r1 hp))⟩
/-- hops: the first loop -/
theorem lc_x34 {c : Nat} {p d : Nat → Nat} {a e : Nat → Int32} (T : lc_T c p d) (H : lc_A c p d a e) (hc : c ≤ 8) {post : Int32 → Prop} {f : Int32} {l : Nat} {y : Nat} (hy : y < c) : ∀ n k x s, k < n → x < c → lc_R p l k x y → post (nI (s + k)) → wX_hops_34 post (nI y) f a e n (nI x) (nI s) := by
  intro n
  induction n with
  | zero => intro k x s h; omega
  | succ n ih =>
    intro k x s h hx r hp
    refine And.intro (lc_in hc hx) (And.intro (lc_in hc hy) (lc_br T H hc hx hy (fun g => ?_) (fun g => ?_)))
    · exact ⟨k + 1, lc_x66 T H hc hx (k + 1) k y s (by omega) hy g r hp⟩
    · have hn : x ≠ y := by
        intro q
        rw [q] at g
        omega
      have hx0 := lc_pos T hy (by omega) hn
      have tx := T.2 x hx0 hx
      obtain ⟨m1, rfl, r1⟩ := lc_L T k x y hx hy (by omega) hn r
      rw [show s + (m1 + 1) = s + 1 + m1 by omega] at hp
      exact ⟨lc_in hc hx, nm_r (lc_ap H hc hx0 hx) (nm_r (nI_1 s) (ih m1 (p x) (s + 1) (by omega) (by omega) r1 hp))⟩
end
section
/-- both arguments name nodes, or some argument doesn't -/
def lc_Bad (f v1 v2 : Int32) : Prop := v1 < 0 ∨ f ≤ v1 ∨ v2 < 0 ∨ ¬ v2 < f
theorem lc_args {c : Nat} (hc : c ≤ 8) (v1 v2 : Int32) : lc_Bad (nI c) v1 v2 ∨ ∃ x y : Nat, x < c ∧ y < c ∧ v1 = nI x ∧ v2 = nI y := by
  by_cases h1 : v1 < 0
  · exact Or.inl (Or.inl h1)
  by_cases h2 : nI c ≤ v1
  · exact Or.inl (Or.inr (Or.inl h2))
  by_cases h3 : v2 < 0
  · exact Or.inl (Or.inr (Or.inr (Or.inl h3)))
  by_cases h4 : v2 < nI c
  · obtain ⟨x, hx, rfl⟩ := nI_of h1
    obtain ⟨y, hy, rfl⟩ := nI_of h3
    rw [nI_leI (by omega) hx] at h2
    rw [nI_ltI hy (by omega)] at h4
    exact Or.inr ⟨x, y, by omega, h4, rfl, rfl⟩
  · exact Or.inl (Or.inr (Or.inr (Or.inr h4)))
/-- the range check of lca, hops and walk: refused -/
theorem lc_no {f v1 v2 : Int32} {A B : Prop} (b : lc_Bad f v1 v2) (h : A) : (v1 < 0 → A) ∧ (¬ v1 < 0 → ((f ≤ v1 → A) ∧ (¬ f ≤ v1 → ((v2 < 0 → A) ∧ (¬ v2 < 0 → ((v2 < f → B) ∧ (¬ v2 < f → A))))))) := by
  refine ⟨fun _ => h, fun h1 => ⟨fun _ => h, fun h2 => ⟨fun _ => h, fun h3 => ⟨fun h4 => ?_, fun _ => h⟩⟩⟩⟩
  rcases b with b | b | b | b
  · exact absurd b h1
  · exact absurd b h2
  · exact absurd b h3
  · exact absurd h4 b
/-- the range check of lca, hops and walk: passed -/
theorem lc_ok {c x y : Nat} {A B : Prop} (hc : c ≤ 8) (hx : x < c) (hy : y < c) (h : B) : (nI x < 0 → A) ∧ (¬ nI x < 0 → ((nI c ≤ nI x → A) ∧ (¬ nI c ≤ nI x → ((nI y < 0 → A) ∧ (¬ nI y < 0 → ((nI y < nI c → B) ∧ (¬ nI y < nI c → A))))))) :=
  br_f (nI_pos (by omega)) (br_f (nI_ge hx (by omega)) (br_f (nI_pos (by omega)) (br_t (nI_lt hy (by omega)) h)))
section
variable {a e : Nat → Int32}
theorem lc_Yno {f v1 v2 z : Int32} {post : Int32 → Prop} (b : lc_Bad f v1 v2) (h : post (-1)) : wpY_walk post (f, a) v1 v2 z := by
  unfold wpY_walk; exact lc_no b h
theorem lc_Xlno {f v1 v2 : Int32} {post : Int32 → Prop} (b : lc_Bad f v1 v2) (h : post (-1)) : wpX_lca post (f, a, e) v1 v2 := by
  unfold wpX_lca; exact lc_no b h
theorem lc_Xhno {f v1 v2 : Int32} {post : Int32 → Prop} (b : lc_Bad f v1 v2) (h : post (-1)) : wpX_hops post (f, a, e) v1 v2 := by
  unfold wpX_hops; exact lc_no b h
theorem lc_Yl {c : Nat} {p d : Nat → Nat} (T : lc_T c p d) (H : lc_A c p d a e) (hc : c ≤ 8) {post : Int32 → Prop} {l k x y : Nat} (hx : x < c) (hy : y < c) (r : lc_R p l k x y) (h : post (nI l)) : wpY_lca post (nI c, a) (nI x) (nI y) := by
  unfold wpY_lca wpY_walk
  exact lc_ok hc hx hy ⟨k + 1, lc_y29 T H hc k x y 0 hx hy r (fun _ => h) (fun n => absurd rfl n)⟩
theorem lc_Yh {c : Nat} {p d : Nat → Nat} (T : lc_T c p d) (H : lc_A c p d a e) (hc : c ≤ 8) {post : Int32 → Prop} {l k x y : Nat} (hx : x < c) (hy : y < c) (r : lc_R p l k x y) (h : post (nI (0 + k))) : wpY_hops post (nI c, a) (nI x) (nI y) := by
  unfold wpY_hops wpY_walk
  exact lc_ok hc hx hy ⟨k + 1, lc_y29 T H hc k x y 0 hx hy r (fun n => absurd n (by decide)) (fun _ => h)⟩
theorem lc_Xl {c : Nat} {p d : Nat → Nat} (T : lc_T c p d) (H : lc_A c p d a e) (hc : c ≤ 8) {post : Int32 → Prop} {l k x y : Nat} (hx : x < c) (hy : y < c) (r : lc_R p l k x y) (h : post (nI l)) : wpX_lca post (nI c, a, e) (nI x) (nI y) := by
  unfold wpX_lca
  exact lc_ok hc hx hy ⟨k + 1, lc_x31 T H hc h hy (k + 1) k x (by omega) hx r⟩
theorem lc_Xh {c : Nat} {p d : Nat → Nat} (T : lc_T c p d) (H : lc_A c p d a e) (hc : c ≤ 8) {post : Int32 → Prop} {l k x y : Nat} (hx : x < c) (hy : y < c) (r : lc_R p l k x y) (h : post (nI (0 + k))) : wpX_hops post (nI c, a, e) (nI x) (nI y) := by
  unfold wpX_hops
  exact lc_ok hc hx hy ⟨k + 1, lc_x34 T H hc hy (k + 1) k x 0 (by omega) hx r h⟩
end
/-- the relation: one tree of c nodes, 1 to 8; the same parents on both sides; the depths the tree's -/
def i_Rel (_ : Nat) (u : SX) (v : SY) : Prop := ∃ (c : Nat) (p d : Nat → Nat) (a e : Nat → Int32), u = (nI c, a, e) ∧ v = (nI c, a) ∧ 1 ≤ c ∧ c ≤ 8 ∧ lc_T c p d ∧ lc_A c p d a e
theorem i_up {k : Nat} {u : SX} {v : SY} (h : i_Rel k u v) : i_Rel (k + 3) u v := h
theorem i_vc0 : wpX_init (fun u => wpY_init (fun v => i_Rel 0 u v)) :=
  ⟨1, fun _ => 0, fun _ => 0, fun _ => 0, fun _ => 0, rfl, rfl, by decide, by decide, And.intro rfl (fun i h0 h1 => by omega), And.intro (fun i h0 h1 => by omega) (fun _ _ => rfl)⟩
theorem i_vc_attach {k : Nat} {u : SX} {v : SY} (I : i_Rel k u v) (hk : k + 3 ≤ 1536) (v1 : Int32) : wpX_attach (fun r u' => wpY_attach (fun r' v' => r' = r ∧ i_Rel (k + 3) u' v') v v1) u v1 := by
  have J : i_Rel (k + 3) u v := I
  obtain ⟨c, p, d, a, e, rfl, rfl, h1, hc, T, H⟩ := I
  by_cases n0 : v1 < 0
  · exact br_t n0 (br_t n0 ⟨rfl, J⟩)
  by_cases n1 : nI c ≤ v1
  · exact br_f n0 (br_t n1 (br_f n0 (br_t n1 ⟨rfl, J⟩)))
  refine br_f n0 (br_f n1 ?_)
  by_cases e8 : c = 8
  · subst e8
    exact br_t rfl (br_f n0 (br_f n1 (br_f (by decide) ⟨rfl, J⟩)))
  · have c8 : c < 8 := by omega
    obtain ⟨j, hj2, rfl⟩ := nI_of n0
    rw [nI_leI (by omega) hj2] at n1
    have hj : j < c := by omega
    have hjl := lc_le T hj
    have ic : vp_in (nI c) 8 := vp_in_nI c8 (by decide)
    have ns : upd a (nI c).toNatClampNeg (vp_nar .short (nI j).toInt16.toInt32) = upd a c (nI j) := by
      rw [nI_clamp (by omega), lc_vs j (by omega)]
    have nb : upd e (nI c).toNatClampNeg (vp_nar .byte ((e (nI j).toNatClampNeg + 1).toInt8.toInt32)) = upd e c (nI (d j + 1)) := by
      rw [nI_clamp (n := c) (by omega), lc_ad H hc hj, lc_vb (d j) (by omega)]
    have n1' : ¬ nI c ≤ nI j := nI_ge hj (by omega)
    have J' : i_Rel (k + 3) (nI (c + 1), upd a c (nI j), upd e c (nI (d j + 1))) (nI (c + 1), upd a c (nI j)) := by
      refine ⟨c + 1, _, _, _, _, rfl, rfl, by omega, by omega, lc_grow T h1 hj, And.intro ?_ ?_⟩
      · intro i h0 hi
        show (if i = c then nI j else a i) = nI (if i = c then j else p i)
        by_cases q : i = c
        · rw [if_pos q, if_pos q]
        · rw [if_neg q, if_neg q]; exact H.1 i h0 (by omega)
      · intro i hi
        show (if i = c then nI (d j + 1) else e i) = nI (if i = c then d j + 1 else d i)
        by_cases q : i = c
        · rw [if_pos q, if_pos q]
        · rw [if_neg q, if_neg q]; exact H.2 i (by omega)
    refine br_f (fun g => e8 ((nI_eq (b := 8) (by omega) (by decide)).mp g)) ⟨ic, nm_r ns ⟨lc_in hc hj, ic, nm_r nb (nm_r (nI_1 c) ?_)⟩⟩
    exact br_f n0 (br_f n1' (br_t (nI_lt (b := 8) c8 (by decide)) ⟨ic, nm_r ns (nm_r (nI_1 c) ⟨rfl, J'⟩)⟩))
theorem i_vc_lca {k : Nat} {u : SX} {v : SY} (I : i_Rel k u v) (hk : k + 3 ≤ 1536) (v1 : Int32) (v2 : Int32) : wpX_lca (fun r => wpY_lca (fun r' => r' = r ∧ i_Rel (k + 3) u v) v v1 v2) u v1 v2 := by
  have J : i_Rel (k + 3) u v := I
  obtain ⟨c, p, d, a, e, rfl, rfl, h1, hc, T, H⟩ := I
  rcases lc_args hc v1 v2 with b | ⟨x, y, hx, hy, rfl, rfl⟩
  · refine lc_Xlno b ?_
    unfold wpY_lca
    exact lc_Yno b ⟨rfl, J⟩
  · obtain ⟨l, m, r⟩ := lc_ex T (x + y + 1) x y (by omega) hx hy
    exact lc_Xl T H hc hx hy r (lc_Yl T H hc hx hy r ⟨rfl, J⟩)
theorem i_vc_hops {k : Nat} {u : SX} {v : SY} (I : i_Rel k u v) (hk : k + 3 ≤ 1536) (v1 : Int32) (v2 : Int32) : wpX_hops (fun r => wpY_hops (fun r' => r' = r ∧ i_Rel (k + 3) u v) v v1 v2) u v1 v2 := by
  have J : i_Rel (k + 3) u v := I
  obtain ⟨c, p, d, a, e, rfl, rfl, h1, hc, T, H⟩ := I
  rcases lc_args hc v1 v2 with b | ⟨x, y, hx, hy, rfl, rfl⟩
  · refine lc_Xhno b ?_
    unfold wpY_hops
    exact lc_Yno b ⟨rfl, J⟩
  · obtain ⟨l, m, r⟩ := lc_ex T (x + y + 1) x y (by omega) hx hy
    exact lc_Xh T H hc hx hy r (lc_Yh T H hc hx hy r ⟨rfl, J⟩)
theorem i_vc_size {k : Nat} {u : SX} {v : SY} (I : i_Rel k u v) (hk : k + 3 ≤ 1536) : wpX_size (fun r => wpY_size (fun r' => r' = r ∧ i_Rel (k + 3) u v) v) u := by
  have J : i_Rel (k + 3) u v := I
  obtain ⟨c, p, d, a, e, rfl, rfl, h1, hc, T, H⟩ := I
  exact ⟨rfl, J⟩
end
