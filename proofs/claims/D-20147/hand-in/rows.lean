section
/-! ===== the methods, one lemma each: their post general, what the answer's box holds as a hypothesis ===== -/
/-- Integer.valueOf: a box that holds v; boxes that stood hold what they held (turned from the example list-of-integers) -/
theorem bv_valueOf {post : Option Nat → StJd1a94 → Prop} {mc ms : Nat} {adB : Nat → Nat} {LP : List Nat} {p : Nat → Int32} (v : Int32) (hm : 1 ≤ mc) (hs : 1 ≤ ms)
    (h : ∀ y LP' p', vb_bx LP' p' adB y v → (∀ z w, vb_bx LP p adB z w → vb_bx LP' p' adB z w) → post (some y) (LP', p')) : wpJ6_valueOf_2dffe_e41c5 post mc ms adB (LP, p) v := by
  have key : wJ6_valueOf_2dffe_e41c5_23 post mc ms adB v 0 0 LP p := by
    refine ⟨by omega, by omega, fun q hq => ⟨Or.inl (cm_last LP q), ?_⟩⟩
    show q ∈ LP ++ [q] ∧ post (some q) (LP ++ [q], va_up (va_up p q 0) q v)
    rw [bx_uu]
    exact ⟨cm_last LP q, h q _ _ bx_new (fun z w hz => bx_grow hz hq)⟩
  refine ⟨fun _ => key, fun h1 => ⟨fun _ => key, fun h2 => ?_⟩⟩
  obtain ⟨j, hj, e, ev⟩ := bx_small h1 h2
  rw [e, nI_clamp (by omega)]
  exact ⟨vp_in_nI hj (by omega), h _ _ _ (Or.inr ⟨j, hj, rfl, ev⟩) (fun z w hz => hz)⟩
/-- the class's ownOrShared, not own, mine null: a box of the shared int -/
theorem bv_x0 {post : Option Nat → St1 → Prop} {mc ms : Nat} {adB : Nat → Nat} {LP : List Nat} {p : Nat → Int32} (v : Int32) (hm : 1 ≤ mc) (hs : 1 ≤ ms)
    (h : ∀ y LP' p', vb_bx LP' p' adB y v → (∀ z w, vb_bx LP p adB z w → vb_bx LP' p' adB z w) → post (some y) (LP', p')) : wpX0_ownOrShared post mc ms adB (LP, p) 0 v :=
  br_t rfl ⟨1, 1, by omega, by omega, bv_valueOf v (Nat.le_refl _) (Nat.le_refl _) fun y LP' p' hx hk => cm_some (h y LP' p' hx hk)⟩
/-- the twin's, the same -/
theorem bv_x1 {post : Option Nat → St1 → Prop} {mc ms : Nat} {adB : Nat → Nat} {LP : List Nat} {p : Nat → Int32} (v : Int32) (hm : 1 ≤ mc) (hs : 1 ≤ ms)
    (h : ∀ y LP' p', vb_bx LP' p' adB y v → (∀ z w, vb_bx LP p adB z w → vb_bx LP' p' adB z w) → post (some y) (LP', p')) : wpX1_ownOrShared post mc ms adB (LP, p) 0 v :=
  br_t rfl ⟨1, 1, by omega, by omega, bv_valueOf v (Nat.le_refl _) (Nat.le_refl _) fun y LP' p' hx hk => cm_some (h y LP' p' hx hk)⟩
/-- what both give where mine is a box of a: a if own, else the shared b -/
def bv_val (own a b : Int32) : Int32 := if own = 0 then b else a
/-- the class's ownOrShared, mine a box of a -/
theorem bv_x0_2 {post : Option Nat → St1 → Prop} {mc ms : Nat} {adB : Nat → Nat} {LP : List Nat} {p : Nat → Int32} {o : Nat} {a : Int32} (own b : Int32) (ho : vb_bx LP p adB o a) (hm : 1 ≤ mc) (hs : 1 ≤ ms)
    (h : ∀ y LP' p', vb_bx LP' p' adB y (bv_val own a b) → (∀ z w, vb_bx LP p adB z w → vb_bx LP' p' adB z w) → post (some y) (LP', p')) : wpX0_ownOrShared_2 post mc ms adB (LP, p) o own b := by
  have key : ∀ v, v = bv_val own a b → wX0_ownOrShared_2_12 post mc ms adB v 0 0 LP p := fun v ev =>
    ⟨1, 1, by omega, by omega, bv_valueOf v (Nat.le_refl _) (Nat.le_refl _) fun y LP' p' hx hk => cm_some (h y LP' p' (ev ▸ hx) hk)⟩
  exact br_c (fun e => key b (if_pos e).symm) (fun e => ⟨ho.bm, a, ho, key a (if_neg e).symm⟩)
/-- the twin's, the same -/
theorem bv_x1_2 {post : Option Nat → St1 → Prop} {mc ms : Nat} {adB : Nat → Nat} {LP : List Nat} {p : Nat → Int32} {o : Nat} {a : Int32} (own b : Int32) (ho : vb_bx LP p adB o a) (hm : 1 ≤ mc) (hs : 1 ≤ ms)
    (h : ∀ y LP' p', vb_bx LP' p' adB y (bv_val own a b) → (∀ z w, vb_bx LP p adB z w → vb_bx LP' p' adB z w) → post (some y) (LP', p')) : wpX1_ownOrShared_2 post mc ms adB (LP, p) o own b := by
  have key : ∀ v, v = bv_val own a b → wX1_ownOrShared_2_11 post mc ms adB v 0 0 LP p := fun v ev =>
    ⟨1, 1, by omega, by omega, bv_valueOf v (Nat.le_refl _) (Nat.le_refl _) fun y LP' p' hx hk => cm_some (h y LP' p' (ev ▸ hx) hk)⟩
  exact br_c (fun e => key b (if_pos e).symm) (fun e => ⟨ho.bm, a, ho, key a (if_neg e).symm⟩)
/-- cellAt: some int, in range where the array is read -/
theorem bv_cell {post : Int32 → Prop} {L : Nat} {xs : Nat → Int32} (i : Nat) (hi : i < 3) (hL : L ≤ 3) (h : ∀ v, post v) : wpL_cellAt post L xs () (nI i) :=
  pk_le L i (fun _ => h _) (fun z => ⟨vp_in_nI z (by omega), h _⟩)
end
section
/-- the law's end, mine null and not own: both boxes hold b -/
theorem bv_30 {post : Int32 → St1 → Prop} {mc ms kc ks : Nat} {adB : Nat → Nat} {LP : List Nat} {p : Nat → Int32} (b : Int32) (hm : kc + 2 ≤ mc) (hs : ks + 2 ≤ ms) (h : ∀ u, post 1 u) : wL_lawOf_30 post mc ms adB b 0 kc ks LP p :=
  ⟨1, 1, by omega, by omega, bv_x0 b (Nat.le_refl _) (Nat.le_refl _) fun y LP' p' hx hk => cm_some ⟨hx.bm, b, hx, 1, 1, by omega, by omega,
    bv_x1 b (Nat.le_refl _) (Nat.le_refl _) fun y2 LP2 p2 hx2 hk2 => cm_some ⟨hx2.bm, b, hx2, br_t rfl (h _)⟩⟩⟩
/-- the law's end, mine a box of a: both boxes hold the same -/
theorem bv_30_2 {post : Int32 → St1 → Prop} {mc ms kc ks : Nat} {adB : Nat → Nat} {LP : List Nat} {p : Nat → Int32} {o : Nat} {a : Int32} (b own : Int32) (ho : vb_bx LP p adB o a) (hm : kc + 2 ≤ mc) (hs : ks + 2 ≤ ms) (h : ∀ u, post 1 u) : wL_lawOf_30_2 post mc ms adB b own o kc ks LP p :=
  ⟨1, 1, by omega, by omega, bv_x0_2 own b ho (Nat.le_refl _) (Nat.le_refl _) fun y LP' p' hx hk => cm_some ⟨hx.bm, _, hx, 1, 1, by omega, by omega,
    bv_x1_2 own b (hk _ _ ho) (Nat.le_refl _) (Nat.le_refl _) fun y2 LP2 p2 hx2 hk2 => cm_some ⟨hx2.bm, _, hx2, br_t rfl (h _)⟩⟩⟩
/-- mine is made -/
theorem bv_26 {post : Int32 → St1 → Prop} {mc ms kc ks : Nat} {adB : Nat → Nat} {LP : List Nat} {p : Nat → Int32} (a b own : Int32) (hm : kc + 3 ≤ mc) (hs : ks + 3 ≤ ms) (h : ∀ u, post 1 u) : wL_lawOf_26 post mc ms adB a b own kc ks LP p :=
  ⟨1, 1, by omega, by omega, bv_valueOf a (Nat.le_refl _) (Nat.le_refl _) fun y LP' p' hx hk => cm_some (bv_30_2 b own hx (by omega) (by omega) h)⟩
/-- own or not, mine null or not: null is met where own is 0 alone -/
theorem bv_11 {post : Int32 → St1 → Prop} {mc ms kc ks : Nat} {adB : Nat → Nat} {LP : List Nat} {p : Nat → Int32} (a b f own : Int32) (hm : kc + 3 ≤ mc) (hs : ks + 3 ≤ ms) (h : ∀ u, post 1 u) : wL_lawOf_11 post mc ms adB a b f own kc ks LP p :=
  br_c (fun e => br_c (fun _ => bv_26 a b own hm hs h) (fun _ => e ▸ bv_30 b (by omega) (by omega) h)) (fun _ => bv_26 a b own hm hs h)
theorem bv_lawOf {post : Int32 → St1 → Prop} {mc ms : Nat} {adB : Nat → Nat} {LP : List Nat} {p : Nat → Int32} (a b f : Int32) (hm : 3 ≤ mc) (hs : 3 ≤ ms) (h : ∀ u, post 1 u) : wpL_lawOf post mc ms adB (LP, p) a b f :=
  br_c (fun _ => bv_11 a b f 0 (by omega) (by omega) h) (fun _ => bv_11 a b f 1 (by omega) (by omega) h)
theorem i_vc (xs : Nat → Int32) (L : Nat) (hL : L ≤ 3) : wpL_law (fun r => r = 1) L xs := by
  intro adB
  exact bv_cell 0 (by omega) hL fun a => bv_cell 1 (by omega) hL fun b => bv_cell 2 (by omega) hL fun f =>
    ⟨3, 48, by omega, by omega, bv_lawOf a b f (by omega) (by omega) fun _ => rfl⟩
end
