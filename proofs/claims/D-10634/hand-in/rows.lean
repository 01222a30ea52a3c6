section
section
variable {c e t w : Int32} {a1 : Nat → Int32} {a2 : Nat → Int64} {a3 a4 a5 a6 a7 a8 : Nat → Int32}
/-- the map after one put at version 0: key k holds x at version 1 alone, by entry 0 -/
def pm_M (k : Nat) (x : Int32) (a2 : Nat → Int64) (a4 a5 a6 a7 a8 : Nat → Int32) : Prop :=
  k < 32 ∧ a4 k = 0 ∧ (∀ j, j < 32 → j ≠ k → a4 j = -1) ∧ a5 0 = 1 ∧ a6 0 = x ∧ a7 0 = 1 ∧ a8 0 = -1 ∧ a2 0 < a2 1
theorem pm_c0 : (0 : Int32).toNatClampNeg = 0 := by decide
theorem pm_c1 : (1 : Int32).toNatClampNeg = 1 := by decide
theorem pm_ng {z : Int32} {i : Nat} (h : z < 0) (hi : i < 2 ^ 31) : z < nI i := by
  have h0 : (0 : Int32).toInt = 0 := by decide
  rw [Int32.lt_iff_toInt_lt] at h ⊢
  rw [nI_toInt hi]
  omega
theorem pm_nlt {x y : Int32} (h : x < y) : ¬ y < x := by
  rw [Int32.lt_iff_toInt_lt] at h ⊢
  omega
theorem pm_nle {x y : Int32} (h : x < y) : ¬ y ≤ x := by
  rw [Int32.lt_iff_toInt_lt] at h
  rw [Int32.le_iff_toInt_le]
  omega
/-- a key without entries -/
theorem pm_adv_n {post : Int32 → Prop} {j : Nat} {v : Int32} (hj : j < 32) (h : a4 j = -1) (hp : post (-1)) : wpX_advance post (c, e, t, w, a1, a2, a3, a4, a5, a6, a7, a8) (nI j) (-1) v :=
  br_t rfl ⟨pk_in j 32 hj, nm_r (e' := -1) (by rw [nI_clamp (by omega)]; exact h) ⟨1, br_t rfl hp⟩⟩
/-- the key that was put, at version 1 -/
theorem pm_adv_1 {post : Int32 → Prop} {k : Nat} {x : Int32} (H : pm_M k x a2 a4 a5 a6 a7 a8) (hp : post 0) : wpX_advance post (c, e, t, w, a1, a2, a3, a4, a5, a6, a7, a8) (nI k) (-1) 1 := by
  obtain ⟨hk, h4, _, h5, _, _, h8, _⟩ := H
  refine br_t rfl ⟨pk_in k 32 hk, nm_r (e' := 0) (by rw [nI_clamp (by omega)]; exact h4) ⟨2, br_f (by decide) ⟨pk_in 0 640 (by omega), ?_, pk_in 1 40 (by omega), ?_⟩⟩⟩
  · rw [pm_c0, h5]
    exact pk_in 1 40 (by omega)
  · rw [pm_c0, h5, pm_c1]
    exact br_f (by rw [Int64.lt_iff_toInt_lt]; omega) ⟨pk_in 0 640 (by omega), nm_r (e' := -1) h8 (br_t rfl hp)⟩
/-- the key that was put, at version 0 -/
theorem pm_adv_0 {post : Int32 → Prop} {k : Nat} {x : Int32} (H : pm_M k x a2 a4 a5 a6 a7 a8) (hp : post (-1)) : wpX_advance post (c, e, t, w, a1, a2, a3, a4, a5, a6, a7, a8) (nI k) (-1) 0 := by
  obtain ⟨hk, h4, _, h5, _, _, h8, hl⟩ := H
  refine br_t rfl ⟨pk_in k 32 hk, nm_r (e' := 0) (by rw [nI_clamp (by omega)]; exact h4) ⟨1, br_f (by decide) ⟨pk_in 0 640 (by omega), ?_, pk_in 0 40 (by omega), ?_⟩⟩⟩
  · rw [pm_c0, h5]
    exact pk_in 1 40 (by omega)
  · rw [pm_c0, h5, pm_c1]
    exact br_t hl hp
theorem pm_look_n {post : St2 → Prop} {j : Nat} {v : Int32} (hj : j < 32) (h : a4 j = -1) (hp : post (c, e, 0, 0, a1, a2, a3, a4, a5, a6, a7, a8)) : wpX_look post (c, e, t, w, a1, a2, a3, a4, a5, a6, a7, a8) v (nI j) := by
  unfold wpX_look
  exact pm_adv_n hj h (br_t rfl ⟨rfl, rfl, br_t rfl hp⟩)
theorem pm_look_1 {post : St2 → Prop} {k : Nat} {x : Int32} (H : pm_M k x a2 a4 a5 a6 a7 a8) (hp : post (c, e, 1, x, a1, a2, a3, a4, a5, a6, a7, a8)) : wpX_look post (c, e, t, w, a1, a2, a3, a4, a5, a6, a7, a8) 1 (nI k) := by
  unfold wpX_look
  refine pm_adv_1 H (br_f (by decide) ⟨pk_in 0 640 (by omega), ?_⟩)
  obtain ⟨_, _, _, _, h6, h7, _, _⟩ := H
  rw [pm_c0, h7]
  exact br_f (by decide) ⟨rfl, rfl, br_f (by decide) ⟨pk_in 0 640 (by omega), nm_r (e' := x) h6 hp⟩⟩
theorem pm_look_0 {post : St2 → Prop} {k : Nat} {x : Int32} (H : pm_M k x a2 a4 a5 a6 a7 a8) (hp : post (c, e, 0, 0, a1, a2, a3, a4, a5, a6, a7, a8)) : wpX_look post (c, e, t, w, a1, a2, a3, a4, a5, a6, a7, a8) 0 (nI k) := by
  unfold wpX_look
  exact pm_adv_0 H (br_t rfl ⟨rfl, rfl, br_t rfl hp⟩)
end
end
section
section
variable {c e t w : Int32} {a1 : Nat → Int32} {a2 : Nat → Int64} {a3 a4 a5 a6 a7 a8 : Nat → Int32}
theorem pm_fill {s : Nat → Int32} {i k : Nat} (hk : k = i) (h : ∀ j, j < i → s j = -1) : ∀ j, j < i + 1 → upd s k (-1) j = -1 := by
  intro j hj
  rw [hk]
  by_cases q : j = i
  · rw [q, pk_us]
  · rw [pk_un q]
    exact h j (by omega)
theorem pm_init {post : St2 → Prop} {mc ms : Nat} (h1 : 8 ≤ mc) (h2 : 2712 ≤ ms)
    (H : ∀ b : Nat → Int32, (∀ j, j < 32 → b j = -1) → post (1, 0, 0, 0, upd (fun _ => 0) 0 (-1), vp_updL (fun _ => 0) 0 1152921504606846976, upd (fun _ => 0) 0 (-1), b, (fun _ => 0), (fun _ => 0), (fun _ => 0), (fun _ => 0))) :
    wpX_init post mc ms (0, 0, 0, 0) := by
  refine ⟨by omega, by omega, by omega, by omega, by omega, by omega, by omega, by omega, by omega, by omega, by omega, by omega, by omega, by omega, by omega, by omega, nm_e (nm_e (nm_e ?_))⟩
  exact pk_loop (fun n i s => wX_init_102 post mc ms 8 2712 1 0 0 0 n (nI i) (upd (fun _ => 0) 0 (-1)) (vp_updL (fun _ => 0) 0 1152921504606846976) (upd (fun _ => 0) 0 (-1)) s (fun _ => 0) (fun _ => 0) (fun _ => 0) (fun _ => 0)) (fun i s => ∀ j, j < i → s j = -1) 32 0 (fun _ => 0) (by omega) (fun j hj => absurd hj (by omega))
    (fun n s h => pk_le 32 32 (fun _ => H s h) (fun z => absurd z (by omega)))
    (fun n i s hi h hw => pk_le 32 i (fun z => absurd z (by omega)) (fun _ => ⟨pk_in i 32 hi, nm_e (nm_r (nI_1 i) (hw _ (pm_fill (nI_clamp (by omega)) h)))⟩))
/-- the first new version, behind version 0 -/
theorem pm_open {post : Int32 → St2 → Prop} (h2 : a2 0 = 1152921504606846976) (h3 : a3 0 = -1)
    (H : ∀ (b1 : Nat → Int32) (b2 : Nat → Int64) (b3 : Nat → Int32), b2 0 < b2 1 → b3 1 = -1 → post 1 (2, e, t, w, b1, b2, b3, a4, a5, a6, a7, a8)) :
    wpX_open post (1, e, t, w, a1, a2, a3, a4, a5, a6, a7, a8) 0 := by
  refine ⟨pk_in 1 40 (by omega), fun b1 _ => ⟨pk_in 0 40 (by omega), pk_in 1 40 (by omega), fun b3 e3 => ⟨pk_in 0 40 (by omega), fun d3 f3 => ?_⟩⟩⟩
  rw [pm_c0, pm_c1] at e3
  rw [pm_c0] at f3
  have q3 : d3 1 = -1 := by
    rw [f3, pk_un (by decide), e3, pk_us, h3]
  refine nm_r (e' := 2) (by decide) ⟨pk_in 1 40 (by omega), br_t (by rw [pm_c1]; exact q3) ⟨pk_in 0 40 (by omega), nm_r (e' := 1152921504606846976) (by rw [pm_c0, h2]; decide) (br_t (by decide) ⟨pk_in 0 40 (by omega), by decide, pk_in 1 40 (by omega), fun b2 e2 => H b1 b2 d3 ?_ q3⟩)⟩⟩
  rw [pm_c0, pm_c1] at e2
  have u0 : b2 0 = 1152921504606846976 := by
    rw [e2, pk_uLn (by decide), h2]
  have u1 : b2 1 = 1152921504606846976 + 1152921504606846976 / 2 := by
    rw [e2, pk_uLs, h2]
  rw [u0, u1]
  decide
theorem pm_ins {post : Int32 → St2 → Prop} {k : Nat} {x : Int32} (hk : k < 32) (h4 : a4 k = -1)
    (H : ∀ b4 b5 b6 b7 b8 : Nat → Int32, b4 = upd a4 k 0 → b5 = upd a5 0 1 → b6 = upd a6 0 x → b7 = upd a7 0 1 → b8 0 = -1 → post 0 (2, 1, t, w, a1, a2, a3, b4, b5, b6, b7, b8)) :
    wpX_insert post (2, 0, t, w, a1, a2, a3, a4, a5, a6, a7, a8) (nI k) (-1) 1 1 x := by
  refine nm_r (e' := 1) (by decide) ⟨pk_in 0 640 (by omega), fun b5 e5 => ⟨pk_in 0 640 (by omega), fun b7 e7 => ⟨pk_in 0 640 (by omega), fun b6 e6 => br_t rfl ⟨pk_in k 32 hk, pk_in 0 640 (by omega), fun b8 e8 => ⟨pk_in k 32 hk, fun b4 e4 => H b4 b5 b6 b7 b8 ?_ ?_ ?_ ?_ ?_⟩⟩⟩⟩⟩
  · rw [e4, nI_clamp (by omega)]
  · rw [e5, pm_c0]
  · rw [e6, pm_c0]
  · rw [e7, pm_c0]
    rfl
  · rw [e8, pm_c0, pk_us, nI_clamp (by omega), h4]
theorem pm_write {post : St2 → Prop} {k : Nat} {x : Int32} (hk : k < 32) (h3 : a3 1 = -1) (h4 : a4 k = -1)
    (H : ∀ b4 b5 b6 b7 b8 : Nat → Int32, b4 = upd a4 k 0 → b5 = upd a5 0 1 → b6 = upd a6 0 x → b7 = upd a7 0 1 → b8 0 = -1 → post (2, 1, t, w, a1, a2, a3, b4, b5, b6, b7, b8)) :
    wpX_write post (2, 0, t, w, a1, a2, a3, a4, a5, a6, a7, a8) 1 (nI k) 1 x := by
  refine ⟨pk_in 1 40 (by omega), nm_r (e' := -1) (by rw [pm_c1]; exact h3) ?_⟩
  refine pm_adv_n hk h4 (br_t rfl ?_)
  refine br_t rfl ?_
  unfold wX_write_72
  refine br_t rfl ?_
  unfold wX_write_91
  refine pm_ins hk h4 (fun b4 b5 b6 b7 b8 e4 e5 e6 e7 e8 => ⟨pk_in 0 640 (by omega), nm_r (e' := -1) (by rw [pm_c0]; exact e8) (br_t rfl ?_)⟩)
  unfold wX_write_137
  exact br_t rfl (H b4 b5 b6 b7 b8 e4 e5 e6 e7 e8)
theorem pm_isV {post : Int32 → Prop} {v : Int32} (h0 : ¬ v < 0) (h1 : ¬ c ≤ v) (hp : post 1) : wpX_isVersion post (c, e, t, w, a1, a2, a3, a4, a5, a6, a7, a8) v :=
  br_f h0 (br_f h1 hp)
theorem pm_isK {post : Int32 → Prop} {j : Nat} (hj : j < 32) (hp : post 1) : wpX_isKey post () (nI j) :=
  br_f (nI_pos (by omega)) (pk_le 32 j (fun z => absurd z (by omega)) (fun _ => hp))
theorem pm_noK {post : Int32 → Prop} {x : Int32} (hx : x < 0 ∨ nI 32 ≤ x) (hp : post 0) : wpX_isKey post () x :=
  br_c (fun _ => hp) (fun z => br_t (hx.elim (fun q => absurd q z) (fun q => q)) hp)
theorem pm_put_v {post : Int32 → St2 → Prop} {v y x : Int32} (h : ¬ v = 0) (hp : post (-1) (1, e, t, w, a1, a2, a3, a4, a5, a6, a7, a8)) : wpX_put post (1, e, t, w, a1, a2, a3, a4, a5, a6, a7, a8) v y x := by
  unfold wpX_put
  refine br_c (fun _ => br_t rfl hp) (fun z => br_t ?_ (br_t rfl hp))
  have h0 : (0 : Int32).toInt = 0 := by decide
  have h1 : (1 : Int32).toInt = 1 := by decide
  have g : ¬ v.toInt = (0 : Int32).toInt := fun q => h (Int32.toInt_inj.mp q)
  rw [Int32.lt_iff_toInt_lt] at z
  rw [Int32.le_iff_toInt_le]
  omega
theorem pm_put_k {post : Int32 → St2 → Prop} {y x : Int32} (h : y < 0 ∨ nI 32 ≤ y) (hp : post (-2) (1, e, t, w, a1, a2, a3, a4, a5, a6, a7, a8)) : wpX_put post (1, e, t, w, a1, a2, a3, a4, a5, a6, a7, a8) 0 y x := by
  unfold wpX_put
  exact pm_isV (by decide) (by decide) (br_f (by decide) (pm_noK h (br_t rfl hp)))
theorem pm_put {post : Int32 → St2 → Prop} {k : Nat} {x : Int32} (hk : k < 32) (h2 : a2 0 = 1152921504606846976) (h3 : a3 0 = -1) (h4 : ∀ j, j < 32 → a4 j = -1)
    (H : ∀ (b1 : Nat → Int32) (b2 : Nat → Int64) (b3 b4 b5 b6 b7 b8 : Nat → Int32), pm_M k x b2 b4 b5 b6 b7 b8 → post 1 (2, 1, t, w, b1, b2, b3, b4, b5, b6, b7, b8)) :
    wpX_put post (1, 0, t, w, a1, a2, a3, a4, a5, a6, a7, a8) 0 (nI k) x := by
  unfold wpX_put
  refine pm_isV (by decide) (by decide) (br_f (by decide) (pm_isK hk (br_f (by decide) (br_f (by decide) ?_))))
  refine pm_open h2 h3 (fun b1 b2 b3 g2 g3 => ?_)
  refine pm_write hk g3 (h4 k hk) (fun b4 b5 b6 b7 b8 e4 e5 e6 e7 e8 => H b1 b2 b3 b4 b5 b6 b7 b8 ⟨hk, ?_, fun j hj hn => ?_, ?_, ?_, ?_, e8, g2⟩)
  · rw [e4, pk_us]
  · rw [e4, pk_un hn]
    exact h4 j hj
  · rw [e5, pk_us]
  · rw [e6, pk_us]
  · rw [e7, pk_us]
end
end
section
section
variable {c e t w : Int32} {a1 : Nat → Int32} {a2 : Nat → Int64} {a3 a4 a5 a6 a7 a8 : Nat → Int32}
/-! version 1 before anything was put -/
theorem pm_noV {post : Int32 → Prop} (hp : post 0) : wpX_isVersion post (1, e, t, w, a1, a2, a3, a4, a5, a6, a7, a8) 1 :=
  br_f (by decide) (br_t (by decide) hp)
theorem pm_has_v {post : Int32 → St2 → Prop} {x : Int32} (hp : post (-1) (1, e, t, w, a1, a2, a3, a4, a5, a6, a7, a8)) : wpX_has post (1, e, t, w, a1, a2, a3, a4, a5, a6, a7, a8) 1 x := by
  unfold wpX_has
  exact pm_noV (br_t rfl hp)
theorem pm_get_v {post : Int32 → St2 → Prop} {x : Int32} (hp : post 0 (1, e, t, w, a1, a2, a3, a4, a5, a6, a7, a8)) : wpX_get post (1, e, t, w, a1, a2, a3, a4, a5, a6, a7, a8) 1 x := by
  unfold wpX_get
  exact pm_noV (br_t rfl hp)
theorem pm_next_v {post : Int32 → St2 → Prop} {x : Int32} (hp : post (-1) (1, e, t, w, a1, a2, a3, a4, a5, a6, a7, a8)) : wpX_next post (1, e, t, w, a1, a2, a3, a4, a5, a6, a7, a8) 1 x := by
  unfold wpX_next
  exact pm_noV (br_t rfl hp)
theorem pm_prev_v {post : Int32 → St2 → Prop} {x : Int32} (hp : post (-1) (1, e, t, w, a1, a2, a3, a4, a5, a6, a7, a8)) : wpX_previous post (1, e, t, w, a1, a2, a3, a4, a5, a6, a7, a8) 1 x := by
  unfold wpX_previous
  exact pm_noV (br_t rfl hp)
theorem pm_sum_v {post : Int32 → St2 → Prop} {x y : Int32} (hp : post 0 (1, e, t, w, a1, a2, a3, a4, a5, a6, a7, a8)) : wpX_sum post (1, e, t, w, a1, a2, a3, a4, a5, a6, a7, a8) 1 x y := by
  unfold wpX_sum
  exact pm_noV (br_t rfl hp)
/-! has and get at a version -/
theorem pm_has_k {post : Int32 → St2 → Prop} {v x : Int32} (h0 : ¬ v < 0) (h1 : ¬ c ≤ v) (h : x < 0 ∨ nI 32 ≤ x) (hp : post (-2) (c, e, t, w, a1, a2, a3, a4, a5, a6, a7, a8)) : wpX_has post (c, e, t, w, a1, a2, a3, a4, a5, a6, a7, a8) v x := by
  unfold wpX_has
  exact pm_isV h0 h1 (br_f (by decide) (pm_noK h (br_t rfl hp)))
theorem pm_has_n {post : Int32 → St2 → Prop} {v : Int32} {j : Nat} (h0 : ¬ v < 0) (h1 : ¬ c ≤ v) (hj : j < 32) (h : a4 j = -1) (hp : post 0 (c, e, 0, 0, a1, a2, a3, a4, a5, a6, a7, a8)) : wpX_has post (c, e, t, w, a1, a2, a3, a4, a5, a6, a7, a8) v (nI j) := by
  unfold wpX_has
  exact pm_isV h0 h1 (br_f (by decide) (pm_isK hj (br_f (by decide) (pm_look_n hj h (br_t rfl hp)))))
theorem pm_has_0 {post : Int32 → St2 → Prop} {k : Nat} {x : Int32} (H : pm_M k x a2 a4 a5 a6 a7 a8) (hp : post 0 (2, e, 0, 0, a1, a2, a3, a4, a5, a6, a7, a8)) : wpX_has post (2, e, t, w, a1, a2, a3, a4, a5, a6, a7, a8) 0 (nI k) := by
  unfold wpX_has
  exact pm_isV (by decide) (by decide) (br_f (by decide) (pm_isK H.1 (br_f (by decide) (pm_look_0 H (br_t rfl hp)))))
theorem pm_has_1 {post : Int32 → St2 → Prop} {k : Nat} {x : Int32} (H : pm_M k x a2 a4 a5 a6 a7 a8) (hp : post 1 (2, e, 1, x, a1, a2, a3, a4, a5, a6, a7, a8)) : wpX_has post (2, e, t, w, a1, a2, a3, a4, a5, a6, a7, a8) 1 (nI k) := by
  unfold wpX_has
  exact pm_isV (by decide) (by decide) (br_f (by decide) (pm_isK H.1 (br_f (by decide) (pm_look_1 H (br_f (by decide) hp)))))
theorem pm_get_k {post : Int32 → St2 → Prop} {v x : Int32} (h0 : ¬ v < 0) (h1 : ¬ c ≤ v) (h : x < 0 ∨ nI 32 ≤ x) (hp : post 0 (c, e, t, w, a1, a2, a3, a4, a5, a6, a7, a8)) : wpX_get post (c, e, t, w, a1, a2, a3, a4, a5, a6, a7, a8) v x := by
  unfold wpX_get
  exact pm_isV h0 h1 (br_f (by decide) (pm_noK h (br_t rfl hp)))
theorem pm_get_n {post : Int32 → St2 → Prop} {v : Int32} {j : Nat} (h0 : ¬ v < 0) (h1 : ¬ c ≤ v) (hj : j < 32) (h : a4 j = -1) (hp : post 0 (c, e, 0, 0, a1, a2, a3, a4, a5, a6, a7, a8)) : wpX_get post (c, e, t, w, a1, a2, a3, a4, a5, a6, a7, a8) v (nI j) := by
  unfold wpX_get
  exact pm_isV h0 h1 (br_f (by decide) (pm_isK hj (br_f (by decide) (pm_look_n hj h (br_t rfl hp)))))
theorem pm_get_1 {post : Int32 → St2 → Prop} {k : Nat} {x : Int32} (H : pm_M k x a2 a4 a5 a6 a7 a8) (hp : post x (2, e, 1, x, a1, a2, a3, a4, a5, a6, a7, a8)) : wpX_get post (2, e, t, w, a1, a2, a3, a4, a5, a6, a7, a8) 1 (nI k) := by
  unfold wpX_get
  exact pm_isV (by decide) (by decide) (br_f (by decide) (pm_isK H.1 (br_f (by decide) (pm_look_1 H (br_f (by decide) hp)))))
/-! next -/
theorem pm_next_h {post : Int32 → St2 → Prop} {k i0 : Nat} {x : Int32} (H : pm_M k x a2 a4 a5 a6 a7 a8) (hi : i0 ≤ k) (hp : post (nI k) (c, e, 1, x, a1, a2, a3, a4, a5, a6, a7, a8)) :
    ∃ n, wX_next_20 post 1 n (nI i0) c e t w a1 a2 a3 a4 a5 a6 a7 a8 := by
  have hk := H.1
  exact pk_loop (σ := Int32 × Int32) (fun n i s => wX_next_20 post 1 n (nI i) c e s.1 s.2 a1 a2 a3 a4 a5 a6 a7 a8) (fun _ _ => True) k i0 (t, w) hi trivial
    (fun n s _ => pk_le 32 k (fun z => absurd z (by omega)) (fun _ => pm_look_1 H (br_f (by decide) hp)))
    (fun n i s hik _ hw => pk_le 32 i (fun z => absurd z (by omega)) (fun _ => pm_look_n (by omega) (H.2.2.1 i (by omega) (by omega)) (br_t rfl (nm_r (nI_1 i) (hw (0, 0) trivial)))))
theorem pm_next_m {post : Int32 → St2 → Prop} {k i0 : Nat} {x : Int32} (H : pm_M k x a2 a4 a5 a6 a7 a8) (hi : k < i0) (hb : i0 < 2 ^ 31) (hp : ∀ t' w', post (-2) (c, e, t', w', a1, a2, a3, a4, a5, a6, a7, a8)) :
    ∃ n, wX_next_20 post 1 n (nI i0) c e t w a1 a2 a3 a4 a5 a6 a7 a8 := by
  by_cases h : i0 ≤ 32
  · exact pk_loop (σ := Int32 × Int32) (fun n i s => wX_next_20 post 1 n (nI i) c e s.1 s.2 a1 a2 a3 a4 a5 a6 a7 a8) (fun i _ => k < i) 32 i0 (t, w) h hi
      (fun n s _ => pk_le 32 32 (fun _ => hp s.1 s.2) (fun z => absurd z (by omega)))
      (fun n i s hi32 hki hw => pk_le 32 i (fun z => absurd z (by omega)) (fun _ => pm_look_n hi32 (H.2.2.1 i hi32 (by omega)) (br_t rfl (nm_r (nI_1 i) (hw (0, 0) (by omega))))))
  · exact ⟨1, pk_le 32 i0 (fun _ => hp t w) (fun z => absurd z (by omega))⟩
theorem pm_next {post : Int32 → St2 → Prop} {k : Nat} {x y : Int32} (H : pm_M k x a2 a4 a5 a6 a7 a8)
    (h1 : ¬ nI k < y → ∀ t' w', post (nI k) (2, e, t', w', a1, a2, a3, a4, a5, a6, a7, a8))
    (h2 : nI k < y → ∀ t' w', post (-2) (2, e, t', w', a1, a2, a3, a4, a5, a6, a7, a8)) :
    wpX_next post (2, e, t, w, a1, a2, a3, a4, a5, a6, a7, a8) 1 y := by
  have hk := H.1
  unfold wpX_next
  refine pm_isV (by decide) (by decide) (br_f (by decide) ?_)
  by_cases hy : y < 0
  · exact br_f (pm_nle hy) (pm_next_h (i0 := 0) H (by omega) (h1 (pm_nlt (pm_ng hy (by omega))) 1 x))
  · obtain ⟨i, hi, rfl⟩ := nI_of hy
    refine br_t (nI_pos' hi) ?_
    by_cases q : i ≤ k
    · exact pm_next_h H q (h1 (nI_nlt q (by omega)) 1 x)
    · exact pm_next_m H (by omega) hi (h2 (nI_lt (by omega) hi))
/-! previous -/
theorem pm_prev_h {post : Int32 → St2 → Prop} {k i : Nat} {x : Int32} (H : pm_M k x a2 a4 a5 a6 a7 a8) (hi : i < 32) (hk : k ≤ i) (hp : post (nI k) (c, e, 1, x, a1, a2, a3, a4, a5, a6, a7, a8)) :
    ∃ n, wX_previous_23 post 1 n (nI i) c e t w a1 a2 a3 a4 a5 a6 a7 a8 := by
  have := pk_loopD (σ := Int32 × Int32) (fun n i s => wX_previous_23 post 1 n (nI i + (-1)) c e s.1 s.2 a1 a2 a3 a4 a5 a6 a7 a8) (fun i _ => k < i ∧ i ≤ 32)
    (fun n s h => absurd h.1 (by omega))
    (fun n i s h hw => by
      show wX_previous_23 post 1 (n + 1) (nI (i + 1) + (-1)) c e s.1 s.2 a1 a2 a3 a4 a5 a6 a7 a8
      rw [pk_m1]
      refine br_f (nI_pos (by omega)) ?_
      by_cases q : i = k
      · rw [q]
        exact pm_look_1 H (br_f (by decide) hp)
      · exact pm_look_n (by omega) (H.2.2.1 i (by omega) q) (br_t rfl (nm_e (hw (0, 0) ⟨by omega, by omega⟩))))
    (i + 1) (t, w) ⟨by omega, by omega⟩
  dsimp only at this
  rw [pk_m1] at this
  exact ⟨_, this⟩
theorem pm_prev_m {post : Int32 → St2 → Prop} {k i : Nat} {x : Int32} (H : pm_M k x a2 a4 a5 a6 a7 a8) (hi : i < 32) (hk : i < k) (hp : ∀ t' w', post (-2) (c, e, t', w', a1, a2, a3, a4, a5, a6, a7, a8)) :
    ∃ n, wX_previous_23 post 1 n (nI i) c e t w a1 a2 a3 a4 a5 a6 a7 a8 := by
  have := pk_loopD (σ := Int32 × Int32) (fun n i s => wX_previous_23 post 1 n (nI i + (-1)) c e s.1 s.2 a1 a2 a3 a4 a5 a6 a7 a8) (fun i _ => i ≤ k)
    (fun n s h => br_t (by decide) (hp s.1 s.2))
    (fun n i s h hw => by
      show wX_previous_23 post 1 (n + 1) (nI (i + 1) + (-1)) c e s.1 s.2 a1 a2 a3 a4 a5 a6 a7 a8
      have hk2 := H.1
      rw [pk_m1]
      refine br_f (nI_pos (by omega)) ?_
      exact pm_look_n (by omega) (H.2.2.1 i (by omega) (by omega)) (br_t rfl (nm_e (hw (0, 0) (by omega)))))
    (i + 1) (t, w) (by omega)
  dsimp only at this
  rw [pk_m1] at this
  exact ⟨_, this⟩
theorem pm_prev {post : Int32 → St2 → Prop} {k : Nat} {x y : Int32} (H : pm_M k x a2 a4 a5 a6 a7 a8)
    (h1 : ¬ y < nI k → ∀ t' w', post (nI k) (2, e, t', w', a1, a2, a3, a4, a5, a6, a7, a8))
    (h2 : y < nI k → ∀ t' w', post (-2) (2, e, t', w', a1, a2, a3, a4, a5, a6, a7, a8)) :
    wpX_previous post (2, e, t, w, a1, a2, a3, a4, a5, a6, a7, a8) 1 y := by
  have hk := H.1
  unfold wpX_previous
  refine pm_isV (by decide) (by decide) (br_f (by decide) ?_)
  by_cases hy : y < 0
  · exact br_t (pm_ng (i := 32) hy (by omega)) ⟨1, br_t hy (h2 (pm_ng hy (by omega)) t w)⟩
  · obtain ⟨i, hi, rfl⟩ := nI_of hy
    refine pk_lt i 32 (fun q => ?_) (fun q => ?_)
    · by_cases z : k ≤ i
      · exact pm_prev_h H q z (h1 (nI_nlt z hi) 1 x)
      · exact pm_prev_m H q (by omega) (h2 (nI_lt (by omega) (by omega)))
    · exact pm_prev_h (i := 31) H (by omega) (by omega) (h1 (nI_nlt (by omega) hi) 1 x)
/-! sum -/
theorem pm_sum_l {post : Int32 → St2 → Prop} {k i0 m : Nat} {x : Int32} (H : pm_M k x a2 a4 a5 a6 a7 a8) (hm : m < 32) (hi : i0 ≤ m + 1) (hp : ∀ t' w', post (if i0 ≤ k ∧ k < m + 1 then x else 0) (c, e, t', w', a1, a2, a3, a4, a5, a6, a7, a8)) :
    ∃ n, wX_sum_38 post 1 (nI m) n 0 (nI i0) c e t w a1 a2 a3 a4 a5 a6 a7 a8 := by
  have hk := H.1
  refine pk_loop (σ := Int32 × Int32 × Int32) (fun n i s => wX_sum_38 post 1 (nI m) n s.1 (nI i) c e s.2.1 s.2.2 a1 a2 a3 a4 a5 a6 a7 a8) (fun i s => i0 ≤ i ∧ s.1 = if i0 ≤ k ∧ k < i then x else 0) (m + 1) i0 (0, t, w) hi ⟨Nat.le_refl _, (if_neg (by omega)).symm⟩
    (fun n s h => pk_lt m (m + 1) (fun _ => ?_) (fun z => absurd z (by omega)))
    (fun n i s him h hw => pk_lt m i (fun z => absurd z (by omega)) (fun _ => ?_))
  · rw [h.2]
    exact hp s.2.1 s.2.2
  · by_cases q : i = k
    · subst q
      refine pm_look_1 H (br_f (by decide) (nm_r (e' := x) ?_ (nm_r (nI_1 i) (hw (x, 1, x) ⟨by omega, (if_pos (by omega)).symm⟩))))
      rw [h.2, if_neg (by omega), Int32.zero_add]
    · refine pm_look_n (by omega) (H.2.2.1 i (by omega) q) (br_t rfl (nm_r (e' := s.1) (Int32.add_zero _) (nm_r (nI_1 i) (hw (s.1, 0, 0) ⟨by omega, ?_⟩))))
      show s.1 = _
      rw [h.2]
      by_cases g : i0 ≤ k ∧ k < i
      · rw [if_pos g, if_pos (by omega)]
      · rw [if_neg g, if_neg (by omega)]
theorem pm_sum_s {post : Int32 → St2 → Prop} {k i0 : Nat} {x z : Int32} (H : pm_M k x a2 a4 a5 a6 a7 a8) (hi : i0 < 2 ^ 31) (hz : z < nI 32)
    (hp : ∀ t' w', post (if i0 ≤ k ∧ ¬ z < nI k then x else 0) (c, e, t', w', a1, a2, a3, a4, a5, a6, a7, a8)) :
    ∃ n, wX_sum_38 post 1 z n 0 (nI i0) c e t w a1 a2 a3 a4 a5 a6 a7 a8 := by
  have hk := H.1
  by_cases h : z < 0
  · have g := hp t w
    rw [if_neg (fun q => q.2 (pm_ng h (by omega)))] at g
    exact ⟨1, br_t (pm_ng h hi) g⟩
  · obtain ⟨m, hm, rfl⟩ := nI_of h
    rw [nI_ltI hm (by omega)] at hz
    have ek : (i0 ≤ k ∧ ¬ nI m < nI k) ↔ (i0 ≤ k ∧ k < m + 1) := by
      rw [nI_ltI hm (by omega)]
      omega
    by_cases q : i0 ≤ m + 1
    · refine pm_sum_l H hz q (fun t' w' => ?_)
      have g := hp t' w'
      by_cases y : i0 ≤ k ∧ k < m + 1
      · rw [if_pos y]
        rw [if_pos (ek.mpr y)] at g
        exact g
      · rw [if_neg y]
        rw [if_neg (fun r => y (ek.mp r))] at g
        exact g
    · have g := hp t w
      rw [if_neg (fun r => absurd (ek.mp r) (by omega))] at g
      exact ⟨1, br_t (nI_lt (by omega) hi) g⟩
theorem pm_sum_25 {post : Int32 → St2 → Prop} {k : Nat} {x y z : Int32} (H : pm_M k x a2 a4 a5 a6 a7 a8) (hz : z < nI 32)
    (hp : ∀ t' w', post (if ¬ nI k < y ∧ ¬ z < nI k then x else 0) (c, e, t', w', a1, a2, a3, a4, a5, a6, a7, a8)) :
    wX_sum_25 post 1 y 0 z c e t w a1 a2 a3 a4 a5 a6 a7 a8 := by
  have hk := H.1
  by_cases hy : y < 0
  · refine br_f (pm_nle hy) (pm_sum_s (i0 := 0) H (by omega) hz (fun t' w' => ?_))
    have g := hp t' w'
    by_cases q : z < nI k
    · rw [if_neg (fun r => r.2 q)] at g
      rw [if_neg (fun r => r.2 q)]
      exact g
    · rw [if_pos ⟨pm_nlt (pm_ng hy (by omega)), q⟩] at g
      rw [if_pos ⟨Nat.zero_le k, q⟩]
      exact g
  · obtain ⟨i, hi, rfl⟩ := nI_of hy
    refine br_t (nI_pos' hi) (pm_sum_s H hi hz (fun t' w' => ?_))
    have g := hp t' w'
    have ek : (i ≤ k ∧ ¬ z < nI k) ↔ (¬ nI k < nI i ∧ ¬ z < nI k) := by
      rw [nI_ltI (by omega) hi, Nat.not_lt]
    by_cases q : i ≤ k ∧ ¬ z < nI k
    · rw [if_pos q]
      rw [if_pos (ek.mp q)] at g
      exact g
    · rw [if_neg q]
      rw [if_neg (fun r => q (ek.mpr r))] at g
      exact g
theorem pm_sum {post : Int32 → St2 → Prop} {k : Nat} {x y z : Int32} (H : pm_M k x a2 a4 a5 a6 a7 a8)
    (hp : ∀ t' w', post (if ¬ nI k < y ∧ ¬ z < nI k then x else 0) (2, e, t', w', a1, a2, a3, a4, a5, a6, a7, a8)) :
    wpX_sum post (2, e, t, w, a1, a2, a3, a4, a5, a6, a7, a8) 1 y z := by
  have hk := H.1
  unfold wpX_sum
  refine pm_isV (by decide) (by decide) (br_f (by decide) (br_c (fun hz => pm_sum_25 H hz hp) (fun hz => pm_sum_25 (z := 31) H (nI_lt (a := 31) (b := 32) (by omega) (by omega)) (fun t' w' => ?_))))
  have g := hp t' w'
  have n1 : ¬ (31 : Int32) < nI k := nI_nlt (a := 31) (by omega) (by omega)
  have n2 : ¬ z < nI k := by
    have e32 : (32 : Int32).toInt = 32 := by decide
    rw [Int32.lt_iff_toInt_lt] at hz ⊢
    rw [nI_toInt (by omega)]
    omega
  by_cases q : nI k < y
  · rw [if_neg (fun r => r.1 q)] at g
    rw [if_neg (fun r => r.1 q)]
    exact g
  · rw [if_pos ⟨q, n2⟩] at g
    rw [if_pos ⟨q, n1⟩]
    exact g
end
end
section
section
variable {post : Int32 → St0 → Prop} {mc ms kc ks : Nat} {x0 x1 x2 x3 x4 x6 x7 x8 x9 z0 z1 : Int32}
variable {c e t w : Int32} {a1 : Nat → Int32} {a2 : Nat → Int64} {a3 a4 a5 a6 a7 a8 : Nat → Int32}
/-- the law's object behind put: x7 says whether a version was made; then key x1 holds x2 there -/
def pm_Q (x7 x1 x2 c : Int32) (a2 : Nat → Int64) (a4 a5 a6 a7 a8 : Nat → Int32) : Prop :=
  (x7 = 0 ∧ c = 1 ∧ ∀ j, j < 32 → a4 j = -1) ∨ (x7 = 1 ∧ c = 2 ∧ ∃ k, x1 = nI k ∧ pm_M k x2 a2 a4 a5 a6 a7 a8)
/-- the flag f says whether x is a key -/
def pm_S (f x : Int32) : Prop := (f = 0 ∧ (x < 0 ∨ nI 32 ≤ x)) ∨ (f = 1 ∧ ∃ j, j < 32 ∧ x = nI j)
/-- the flag x9 says whether the looked for is the put -/
def pm_T (x9 x7 x1 x3 : Int32) : Prop := (x9 = 0 ∧ (x7 = 0 ∨ ¬ x3 = x1)) ∨ (x9 = 1 ∧ ¬ x7 = 0 ∧ x3 = x1)
theorem pm_31 {x : Int32} (g : 31 < x) : nI 32 ≤ x := by
  have e1 : (31 : Int32).toInt = 31 := by decide
  rw [Int32.lt_iff_toInt_lt] at g
  rw [Int32.le_iff_toInt_le, nI_toInt (by omega)]
  omega
theorem pm_in31 {x : Int32} (h : ¬ x < 0) (g : ¬ 31 < x) : ∃ j, j < 32 ∧ x = nI j := by
  have e1 : (31 : Int32).toInt = 31 := by decide
  obtain ⟨j, hj, rfl⟩ := nI_of h
  rw [Int32.lt_iff_toInt_lt, nI_toInt hj] at g
  exact ⟨j, by omega, rfl⟩
theorem pm_bad {k : Nat} (hk : k < 32) (h : nI k < 0 ∨ nI 32 ≤ nI k) : False :=
  h.elim (fun q => nI_pos (by omega) q) (fun q => nI_ge hk (by omega) q)
theorem pm_251 (Q : pm_Q x7 x1 x2 c a2 a4 a5 a6 a7 a8) (hz : z1 = z0) (hp : post 1 ()) : wL_lawOf_251 post mc ms x1 x2 x3 x4 x7 z0 z1 kc ks c e t w a1 a2 a3 a4 a5 a6 a7 a8 := by
  refine br_t hz ?_
  rcases Q with ⟨rfl, rfl, h⟩ | ⟨rfl, rfl, k, rfl, H⟩
  · exact pm_sum_v (br_t rfl (br_t rfl hp))
  · refine pm_sum H (fun t' w' => br_f (by decide) ?_)
    by_cases q : nI k < x3
    · rw [if_neg (fun r => r.1 q)]
      exact br_t q (br_t rfl hp)
    · by_cases g : x4 < nI k
      · rw [if_neg (fun r => r.2 g)]
        exact br_f q (br_t g (br_t rfl hp))
      · rw [if_pos ⟨q, g⟩]
        exact br_f q (br_f g (br_t rfl hp))
theorem pm_219 (Q : pm_Q x7 x1 x2 c a2 a4 a5 a6 a7 a8) (hz : z1 = z0) (hp : post 1 ()) : wL_lawOf_219 post mc ms x1 x2 x3 x4 x7 z0 z1 kc ks c e t w a1 a2 a3 a4 a5 a6 a7 a8 := by
  refine br_t hz ?_
  have Q' := Q
  rcases Q with ⟨rfl, rfl, h⟩ | ⟨rfl, rfl, k, rfl, H⟩
  · exact pm_prev_v (br_t rfl (pm_251 Q' rfl hp))
  · exact pm_prev H (fun q t' w' => br_f (by decide) (br_f q (pm_251 Q' rfl hp))) (fun q t' w' => br_f (by decide) (br_t q (pm_251 Q' rfl hp)))
theorem pm_187 (Q : pm_Q x7 x1 x2 c a2 a4 a5 a6 a7 a8) (hz : z1 = z0) (hp : post 1 ()) : wL_lawOf_187 post mc ms x1 x2 x3 x4 x7 z0 z1 kc ks c e t w a1 a2 a3 a4 a5 a6 a7 a8 := by
  refine br_t hz ?_
  have Q' := Q
  rcases Q with ⟨rfl, rfl, h⟩ | ⟨rfl, rfl, k, rfl, H⟩
  · exact pm_next_v (br_t rfl (pm_219 Q' rfl hp))
  · exact pm_next H (fun q t' w' => br_f (by decide) (br_f q (pm_219 Q' rfl hp))) (fun q t' w' => br_f (by decide) (br_t q (pm_219 Q' rfl hp)))
theorem pm_166 (Q : pm_Q x7 x1 x2 c a2 a4 a5 a6 a7 a8) (S : pm_S x8 x3) (hz : z1 = z0) (hp : post 1 ()) : wL_lawOf_166 post mc ms x1 x2 x3 x4 x7 x8 z0 z1 kc ks c e t w a1 a2 a3 a4 a5 a6 a7 a8 := by
  refine br_t hz ?_
  have Q' := Q
  rcases S with ⟨rfl, hx⟩ | ⟨rfl, j, hj, rfl⟩
  · rcases Q with ⟨rfl, rfl, h⟩ | ⟨rfl, rfl, k, rfl, H⟩
    · exact pm_has_k (by decide) (by decide) hx (br_t rfl (pm_187 Q' rfl hp))
    · exact pm_has_k (by decide) (by decide) hx (br_t rfl (pm_187 Q' rfl hp))
  · rcases Q with ⟨rfl, rfl, h⟩ | ⟨rfl, rfl, k, rfl, H⟩
    · exact pm_has_n (by decide) (by decide) hj (h j hj) (br_f (by decide) (pm_187 Q' rfl hp))
    · by_cases q : j = k
      · subst q
        exact pm_has_0 H (br_f (by decide) (pm_187 Q' rfl hp))
      · exact pm_has_n (by decide) (by decide) hj (H.2.2.1 j hj q) (br_f (by decide) (pm_187 Q' rfl hp))
theorem pm_144 (Q : pm_Q x7 x1 x2 c a2 a4 a5 a6 a7 a8) (S : pm_S x8 x3) (T : pm_T x9 x7 x1 x3) (hz : z1 = z0) (hp : post 1 ()) : wL_lawOf_144 post mc ms x1 x2 x3 x4 x7 x8 x9 z0 z1 kc ks c e t w a1 a2 a3 a4 a5 a6 a7 a8 := by
  refine br_t hz ?_
  have Q' := Q
  have S' := S
  rcases Q with ⟨rfl, rfl, h⟩ | ⟨rfl, rfl, k, rfl, H⟩
  · rcases T with ⟨rfl, _⟩ | ⟨_, h7, _⟩
    · exact pm_get_v (br_t rfl (pm_166 Q' S' rfl hp))
    · exact absurd rfl h7
  · rcases S with ⟨rfl, hx⟩ | ⟨rfl, j, hj, rfl⟩
    · rcases T with ⟨rfl, _⟩ | ⟨_, _, h3⟩
      · exact pm_get_k (by decide) (by decide) hx (br_t rfl (pm_166 Q' S' rfl hp))
      · rw [h3] at hx
        exact (pm_bad H.1 hx).elim
    · by_cases q : j = k
      · subst q
        rcases T with ⟨_, h7 | h3⟩ | ⟨rfl, _, _⟩
        · exact absurd h7 (by decide)
        · exact absurd rfl h3
        · exact pm_get_1 H (br_f (by decide) (pm_166 Q' S' rfl hp))
      · rcases T with ⟨rfl, _⟩ | ⟨_, _, h3⟩
        · exact pm_get_n (by decide) (by decide) hj (H.2.2.1 j hj q) (br_t rfl (pm_166 Q' S' rfl hp))
        · have hk := H.1
          exact absurd ((nI_eq (by omega) (by omega)).mp h3) q
theorem pm_106 (Q : pm_Q x7 x1 x2 c a2 a4 a5 a6 a7 a8) (S : pm_S x8 x3) (T : pm_T x9 x7 x1 x3) (hp : post 1 ()) : wL_lawOf_106 post mc ms x1 x2 x3 x4 x7 x8 x9 kc ks c e t w a1 a2 a3 a4 a5 a6 a7 a8 := by
  unfold wL_lawOf_106
  have Q' := Q
  have S' := S
  have T' := T
  rcases Q with ⟨rfl, rfl, h⟩ | ⟨rfl, rfl, k, rfl, H⟩
  · exact pm_has_v (br_t rfl (pm_144 Q' S' T' rfl hp))
  · rcases S with ⟨rfl, hx⟩ | ⟨rfl, j, hj, rfl⟩
    · exact pm_has_k (by decide) (by decide) hx (br_f (by decide) (br_t rfl (pm_144 Q' S' T' rfl hp)))
    · by_cases q : j = k
      · subst q
        rcases T with ⟨_, h7 | h3⟩ | ⟨rfl, _, _⟩
        · exact absurd h7 (by decide)
        · exact absurd rfl h3
        · exact pm_has_1 H (br_f (by decide) (br_f (by decide) (br_f (by decide) (pm_144 Q' S' T' rfl hp))))
      · rcases T with ⟨rfl, _⟩ | ⟨_, _, h3⟩
        · exact pm_has_n (by decide) (by decide) hj (H.2.2.1 j hj q) (br_f (by decide) (br_f (by decide) (br_t rfl (pm_144 Q' S' T' rfl hp))))
        · have hk := H.1
          exact absurd ((nI_eq (by omega) (by omega)).mp h3) q
theorem pm_105 (Q : pm_Q x7 x1 x2 c a2 a4 a5 a6 a7 a8) (S : pm_S x8 x3) (T : x7 = 0 ∨ ¬ x3 = x1) (hp : post 1 ()) : wL_lawOf_105 post mc ms x1 x2 x3 x4 x7 x8 kc ks c e t w a1 a2 a3 a4 a5 a6 a7 a8 := by
  unfold wL_lawOf_105
  exact pm_106 Q S (Or.inl ⟨rfl, T⟩) hp
theorem pm_89 (Q : pm_Q x7 x1 x2 c a2 a4 a5 a6 a7 a8) (S : pm_S x8 x3) (hp : post 1 ()) : wL_lawOf_89 post mc ms x1 x2 x3 x4 x7 x8 kc ks c e t w a1 a2 a3 a4 a5 a6 a7 a8 :=
  br_c (fun h7 => pm_105 Q S (Or.inl h7) hp) (fun h7 => br_c (fun h => pm_106 Q S (Or.inr ⟨rfl, h7, h⟩) hp) (fun h => pm_105 Q S (Or.inr h) hp))
theorem pm_88 (Q : pm_Q x7 x1 x2 c a2 a4 a5 a6 a7 a8) (hx : x3 < 0 ∨ nI 32 ≤ x3) (hp : post 1 ()) : wL_lawOf_88 post mc ms x1 x2 x3 x4 x7 kc ks c e t w a1 a2 a3 a4 a5 a6 a7 a8 := by
  unfold wL_lawOf_88
  exact pm_89 Q (Or.inl ⟨rfl, hx⟩) hp
theorem pm_69 (Q : pm_Q x7 x1 x2 c a2 a4 a5 a6 a7 a8) (hz : z1 = z0) (hp : post 1 ()) : wL_lawOf_69 post mc ms x1 x2 x3 x4 x7 z0 z1 kc ks c e t w a1 a2 a3 a4 a5 a6 a7 a8 :=
  br_t hz (br_c (fun h => pm_88 Q (Or.inl h) hp) (fun h => br_c (fun g => pm_88 Q (Or.inr (pm_31 g)) hp) (fun g => pm_89 Q (Or.inr ⟨rfl, pm_in31 h g⟩) hp)))
/-- the flag z0 says whether put makes a version -/
def pm_U (z0 x0 x6 : Int32) : Prop := (z0 = 0 ∧ (x6 = 0 ∨ ¬ x0 = 0)) ∨ (z0 = 1 ∧ x0 = 0 ∧ ¬ x6 = 0)
theorem pm_40 (h2 : a2 0 = 1152921504606846976) (h3 : a3 0 = -1) (h4 : ∀ j, j < 32 → a4 j = -1) (S : pm_S x6 x1) (U : pm_U z0 x0 x6) (hp : post 1 ()) : wL_lawOf_40 post mc ms x0 x1 x2 x3 x4 x6 z0 kc ks 1 0 t w a1 a2 a3 a4 a5 a6 a7 a8 := by
  unfold wL_lawOf_40
  by_cases h0 : x0 = 0
  · subst h0
    rcases S with ⟨rfl, hx⟩ | ⟨rfl, k, hk, rfl⟩
    · rcases U with ⟨rfl, _⟩ | ⟨_, _, h6⟩
      · exact pm_put_k hx (br_t rfl (br_t rfl (pm_69 (Or.inl ⟨rfl, rfl, h4⟩) rfl hp)))
      · exact absurd rfl h6
    · rcases U with ⟨_, h6 | h6⟩ | ⟨rfl, _, _⟩
      · exact absurd h6 (by decide)
      · exact absurd rfl h6
      · exact pm_put hk h2 h3 h4 (fun b1 b2 b3 b4 b5 b6 b7 b8 H => br_t rfl (br_f (by decide) (pm_69 (Or.inr ⟨rfl, rfl, k, rfl, H⟩) rfl hp)))
  · rcases U with ⟨rfl, _⟩ | ⟨_, h, _⟩
    · exact pm_put_v h0 (br_f h0 (pm_69 (Or.inl ⟨rfl, rfl, h4⟩) rfl hp))
    · exact absurd h h0
theorem pm_39 (h2 : a2 0 = 1152921504606846976) (h3 : a3 0 = -1) (h4 : ∀ j, j < 32 → a4 j = -1) (S : pm_S x6 x1) (U : x6 = 0 ∨ ¬ x0 = 0) (hp : post 1 ()) : wL_lawOf_39 post mc ms x0 x1 x2 x3 x4 x6 kc ks 1 0 t w a1 a2 a3 a4 a5 a6 a7 a8 := by
  unfold wL_lawOf_39
  exact pm_40 h2 h3 h4 S (Or.inl ⟨rfl, U⟩) hp
theorem pm_24 (h2 : a2 0 = 1152921504606846976) (h3 : a3 0 = -1) (h4 : ∀ j, j < 32 → a4 j = -1) (S : pm_S x6 x1) (hp : post 1 ()) : wL_lawOf_24 post mc ms x0 x1 x2 x3 x4 x6 kc ks 1 0 t w a1 a2 a3 a4 a5 a6 a7 a8 :=
  br_c (fun h0 => br_c (fun h6 => pm_39 h2 h3 h4 S (Or.inl h6) hp) (fun h6 => pm_40 h2 h3 h4 S (Or.inr ⟨rfl, h0, h6⟩) hp)) (fun h0 => pm_39 h2 h3 h4 S (Or.inr h0) hp)
theorem pm_23 (h2 : a2 0 = 1152921504606846976) (h3 : a3 0 = -1) (h4 : ∀ j, j < 32 → a4 j = -1) (hx : x1 < 0 ∨ nI 32 ≤ x1) (hp : post 1 ()) : wL_lawOf_23 post mc ms x0 x1 x2 x3 x4 kc ks 1 0 t w a1 a2 a3 a4 a5 a6 a7 a8 := by
  unfold wL_lawOf_23
  exact pm_24 h2 h3 h4 (Or.inl ⟨rfl, hx⟩) hp
theorem pm_lawOf (h1 : 9 ≤ mc) (h2 : 2724 ≤ ms) (hp : post 1 ()) : wpL_lawOf post mc ms () x0 x1 x2 x3 x4 :=
  ⟨by omega, by omega, 8, 2712, by omega, by omega, pm_init (by omega) (by omega) (fun b hb =>
    br_c (fun h => pm_23 pk_uLs pk_us hb (Or.inl h) hp) (fun h => br_c (fun g => pm_23 pk_uLs pk_us hb (Or.inr (pm_31 g)) hp) (fun g => pm_24 pk_uLs pk_us hb (Or.inr ⟨rfl, pm_in31 h g⟩) hp)))⟩
theorem pm_cell {ps : Int32 → Prop} {L : Nat} {xs : Nat → Int32} (hL : L ≤ 5) (i : Nat) (hi : i < 5) (h : ∀ r, ps r) : wpL_cellAt ps L xs () (nI i) :=
  pk_le L i (fun _ => h 0) (fun z => ⟨pk_in i L z, h _⟩)
end
end
section
theorem i_vc (xs : Nat → Int32) (L : Nat) (hL : L ≤ 5) : wpL_law (fun r => r = 1) L xs := by
  unfold wpL_law
  refine pm_cell hL 0 (by omega) (fun r1 => pm_cell hL 1 (by omega) (fun r2 => pm_cell hL 2 (by omega) (fun r3 => pm_cell hL 3 (by omega) (fun r4 => pm_cell hL 4 (by omega) (fun r5 => ?_)))))
  exact ⟨9, 2724, by omega, by omega, pm_lawOf (Nat.le_refl _) (Nat.le_refl _) rfl⟩
end
