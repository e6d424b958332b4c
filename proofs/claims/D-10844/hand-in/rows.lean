section
/-! plain facts on ints -/
theorem rs_c0 : (0 : Int32).toNatClampNeg = 0 := by decide
/-- a token of the law's own wording that carries a message -/
def rs_M (t : Int32) : Prop := ¬ t < 1 ∧ ¬ 32 < t ∧ ¬ (t - 1) &&& 3 = ((t - 1) >>> ((2 : Int32) &&& 31)) &&& 3
theorem rs_nat {t : Int32} (h1 : ¬ t < 1) (h2 : ¬ 32 < t) : ∃ n : Nat, 1 ≤ n ∧ n < 33 ∧ t = nI n := by
  have e1 : (1 : Int32).toInt = 1 := by decide
  have e2 : (32 : Int32).toInt = 32 := by decide
  rw [Int32.lt_iff_toInt_lt] at h1 h2
  have hv : vp_in t 33 := vp_in_iff.mpr ⟨by omega, by omega⟩
  obtain ⟨n, hn, rfl⟩ := vp_in_of hv (by omega)
  refine ⟨n, ?_, hn, rfl⟩
  rw [nI_toInt (by omega)] at h1
  omega
theorem rs_lo : ∀ n, n < 33 → 1 ≤ n → nI n ≤ 16 → ((nI n - 1) &&& 3 = (nI n - 1) >>> ((2 : Int32) &&& 31) ↔ (nI n - 1) &&& 3 = ((nI n - 1) >>> ((2 : Int32) &&& 31)) &&& 3) := by decide +kernel
theorem rs_hi : ∀ n, n < 33 → 1 ≤ n → ¬ nI n ≤ 16 → ((nI n - 17) &&& 3 = (nI n - 17) >>> ((2 : Int32) &&& 31) ↔ (nI n - 1) &&& 3 = ((nI n - 1) >>> ((2 : Int32) &&& 31)) &&& 3) := by decide +kernel
theorem rs_byte : ∀ n, n < 33 → 1 ≤ n → ¬ (nI n).toInt8.toInt32 = 0 := by decide +kernel
theorem rs_not0 {t : Int32} (h : rs_M t) : ¬ t = 0 := fun e => h.1 (by rw [e]; decide)
theorem rs_mbyte {t : Int32} (h : rs_M t) : ¬ t.toInt8.toInt32 = 0 := by
  obtain ⟨n, h1, h2, rfl⟩ := rs_nat h.1 h.2.1
  exact rs_byte n h2 h1
/-! isToken: 0, a message, or neither -/
theorem rs_tok16 {post : Int32 → Prop} {t z : Int32} (hz : ¬ t < 1 → ¬ 32 < t → (z &&& 3 = z >>> ((2 : Int32) &&& 31) ↔ (t - 1) &&& 3 = ((t - 1) >>> ((2 : Int32) &&& 31)) &&& 3)) (h0 : t = 0 → post 1) (h1 : rs_M t → post 1) (h2 : ¬ t = 0 → ¬ rs_M t → post 0) : wX_isToken_16 post t z :=
  br_c h0 (fun n0 => br_c (fun a => h2 n0 (fun m => m.1 a)) (fun a => br_c (fun b => h2 n0 (fun m => m.2.1 b)) (fun b => br_c (fun c => h2 n0 (fun m => m.2.2 ((hz a b).mp c))) (fun c => h1 ⟨a, b, fun d => c ((hz a b).mpr d)⟩))))
theorem rs_tok {post : Int32 → Prop} {t : Int32} (h0 : t = 0 → post 1) (h1 : rs_M t → post 1) (h2 : ¬ t = 0 → ¬ rs_M t → post 0) : wpX_isToken post () t := by
  refine br_c (fun e => rs_tok16 (fun a b => ?_) h0 h1 h2) (fun e => rs_tok16 (fun a b => ?_) h0 h1 h2)
  · obtain ⟨n, g1, g2, rfl⟩ := rs_nat a b
    exact rs_lo n g2 g1 e
  · obtain ⟨n, g1, g2, rfl⟩ := rs_nat a b
    exact rs_hi n g2 g1 e
/-! complete: no token; one token that is a message; one token 0 -/
theorem rs_comp0 {post : Int32 → Prop} {k pc r sc : Int32} {a1 a2 a3 a4 a5 a6 a7 a8 : Nat → Int32} (hp : post 0) : wpX_complete post (0, k, pc, r, sc, a1, a2, a3, a4, a5, a6, a7, a8) :=
  ⟨1, br_t (by decide) (br_f (by decide) hp)⟩
theorem rs_comp1 {post : Int32 → Prop} {k pc r sc : Int32} {a1 a2 a3 a4 a5 a6 a7 a8 : Nat → Int32} (ha : ¬ a1 0 = 0) (hp : post 0) : wpX_complete post (1, k, pc, r, sc, a1, a2, a3, a4, a5, a6, a7, a8) :=
  ⟨2, br_f (by decide) ⟨pk_in 0 21 (by omega), br_f (by rw [rs_c0]; exact ha) (br_c
    (fun _ => nm_r (e' := (1 : Int32)) (by decide) (nm_r (e' := (1 : Int32)) (by decide) (br_t (by decide) (br_f (by decide) hp))))
    (fun _ => nm_r (e' := (2 : Int32)) (by decide) (nm_r (e' := (1 : Int32)) (by decide) (br_t (by decide) (br_f (by decide) hp)))))⟩⟩
theorem rs_compE {post : Int32 → Prop} {k pc r sc : Int32} {a1 a2 a3 a4 a5 a6 a7 a8 : Nat → Int32} (ha : a1 0 = 0) (hp : post 1) : wpX_complete post (1, k, pc, r, sc, a1, a2, a3, a4, a5, a6, a7, a8) :=
  ⟨2, br_f (by decide) ⟨pk_in 0 21 (by omega), br_t (by rw [rs_c0]; exact ha)
    (nm_r (e' := (0 : Int32)) (by decide) (nm_r (e' := (1 : Int32)) (by decide) (br_t (by decide) (br_t (by decide) hp))))⟩⟩
/-! write, over the new object -/
theorem rs_write {post : Int32 → St2 → Prop} {t : Int32} {a1 a2 a3 a4 a5 a6 a7 a8 : Nat → Int32}
    (h1 : t = 0 ∨ rs_M t → post 1 (1, 0, 0, 0, 0, upd a1 0 t.toInt8.toInt32, a2, a3, a4, a5, a6, a7, a8))
    (h2 : ¬ t = 0 → ¬ rs_M t → post (-1) (0, 0, 0, 0, 0, a1, a2, a3, a4, a5, a6, a7, a8)) : wpX_write post (0, 0, 0, 0, 0, a1, a2, a3, a4, a5, a6, a7, a8) t := by
  unfold wpX_write
  refine rs_tok (fun e => br_f (by decide) (rs_comp0 (br_t rfl (br_t (by decide) ⟨pk_in 0 21 (by omega), nm_r (e' := upd a1 0 t.toInt8.toInt32) (by rw [rs_c0]) (nm_r (e' := (1 : Int32)) (by decide) (h1 (Or.inl e)))⟩)))) (fun e => br_f (by decide) (rs_comp0 (br_t rfl (br_t (by decide) ⟨pk_in 0 21 (by omega), nm_r (e' := upd a1 0 t.toInt8.toInt32) (by rw [rs_c0]) (nm_r (e' := (1 : Int32)) (by decide) (h1 (Or.inr e)))⟩)))) (fun e f => br_t rfl (h2 e f))
/-! isRole -/
def rs_R (x : Int32) : Prop := ¬ x < 0 ∧ ¬ 4 ≤ x
theorem rs_role {post : Int32 → Prop} {x : Int32} (h1 : rs_R x → post 1) (h0 : ¬ rs_R x → post 0) : wpX_isRole post () x :=
  br_c (fun a => h0 (fun r => r.1 a)) (fun a => br_c (fun b => h0 (fun r => r.2 b)) (fun b => h1 ⟨a, b⟩))
theorem rs_roleN {x : Int32} (h : rs_R x) : ∃ n : Nat, n < 4 ∧ x = nI n := by
  obtain ⟨h1, h2⟩ := h
  have e1 : (0 : Int32).toInt = 0 := by decide
  have e2 : (4 : Int32).toInt = 4 := by decide
  rw [Int32.lt_iff_toInt_lt] at h1
  rw [Int32.le_iff_toInt_le] at h2
  exact vp_in_of (vp_in_iff.mpr ⟨by omega, by omega⟩) (by omega)
/-! an object whose list is not complete: nothing is fixed -/
def rs_O (u : St2) : Prop := ∀ post : Int32 → Prop, post 0 → wpX_complete post u
theorem rs_fixO {post : Int32 → St2 → Prop} {x c k pc r sc : Int32} {a1 a2 a3 a4 a5 a6 a7 a8 : Nat → Int32} (ho : rs_O (c, k, pc, r, sc, a1, a2, a3, a4, a5, a6, a7, a8)) (hp : post 0 (c, k, pc, r, sc, a1, a2, a3, a4, a5, a6, a7, a8)) : wpX_fixed post (c, k, pc, r, sc, a1, a2, a3, a4, a5, a6, a7, a8) x := by
  unfold wpX_fixed
  refine rs_role (fun _ => br_f (by decide) ?_) (fun _ => br_t rfl hp)
  unfold wpX_learn
  exact ho _ (br_t rfl (br_t rfl hp))
theorem rs_sizeO {post : Int32 → St2 → Prop} {x c k pc r sc : Int32} {a1 a2 a3 a4 a5 a6 a7 a8 : Nat → Int32} (ho : rs_O (c, k, pc, r, sc, a1, a2, a3, a4, a5, a6, a7, a8)) (hp : post (-1) (c, k, pc, r, sc, a1, a2, a3, a4, a5, a6, a7, a8)) : wpX_size post (c, k, pc, r, sc, a1, a2, a3, a4, a5, a6, a7, a8) x := by
  unfold wpX_size
  exact rs_fixO ho (br_t rfl hp)
theorem rs_startO {post : Int32 → St2 → Prop} {c k pc r sc : Int32} {a1 a2 a3 a4 a5 a6 a7 a8 : Nat → Int32} (ho : rs_O (c, k, pc, r, sc, a1, a2, a3, a4, a5, a6, a7, a8)) (hp : post 0 (c, k, pc, r, sc, a1, a2, a3, a4, a5, a6, a7, a8)) : wpX_start post (c, k, pc, r, sc, a1, a2, a3, a4, a5, a6, a7, a8) := by
  unfold wpX_start wpX_fit
  exact rs_fixO ho (br_t rfl (br_t rfl hp))
theorem rs_possO {post : Int32 → Prop} {p q l c k pc sc : Int32} {a1 a2 a3 a4 a5 a6 a7 a8 : Nat → Int32} (hp : post 0) : wpX_possible post (c, k, pc, 0, sc, a1, a2, a3, a4, a5, a6, a7, a8) p q l :=
  br_t rfl hp
theorem rs_dutyO {post : Int32 → Prop} {x c k pc sc : Int32} {a1 a2 a3 a4 a5 a6 a7 a8 : Nat → Int32} (hp : post (-1)) : wpX_duty post (c, k, pc, 0, sc, a1, a2, a3, a4, a5, a6, a7, a8) x :=
  br_t rfl hp
end
section
/-! the object whose one token is 0 -/
def rs_Z (a : Nat → Int32) : Prop := ∀ j, j < 4 → a j = 0
theorem rs_Z4 (a : Nat → Int32) : rs_Z (upd (upd (upd (upd a 0 0) 1 0) 2 0) 3 0) := by
  intro j hj
  unfold upd
  by_cases h3 : j = 3
  · rw [if_pos h3]
  · rw [if_neg h3]
    by_cases h2 : j = 2
    · rw [if_pos h2]
    · rw [if_neg h2]
      by_cases h1 : j = 1
      · rw [if_pos h1]
      · rw [if_neg h1, if_pos (by omega)]
/-- what is known of the parts: nothing, or the four of the one token -/
def rs_L (k : Int32) (a3 : Nat → Int32) : Prop := k = 0 ∨ (k = 1 ∧ rs_Z a3)
theorem rs_l103 {post : Int32 → St2 → Prop} {J : Int32 → Int32 → Int32 → Int32 → Int32 → Int32 → (Nat → Int32) → (Nat → Int32) → (Nat → Int32) → (Nat → Int32) → (Nat → Int32) → (Nat → Int32) → (Nat → Int32) → (Nat → Int32) → Prop} {c k pc r sc : Int32} {a1 a2 a3 a4 a5 a6 a7 a8 : Nat → Int32} {n i : Nat} {x y : Int32} (hi : i < 4) (hx : x = nI i) (hy : y = nI (i + 1))
    (h : wX_learn_103 post J 0 0 n y c k pc r sc a1 a2 (upd a3 i 0) a4 a5 a6 a7 a8) : wX_learn_103 post J 0 0 (n + 1) x c k pc r sc a1 a2 a3 a4 a5 a6 a7 a8 := by
  subst hx hy
  have e : (0 : Int32) * 4 + nI i = nI i := by
    rw [show (0 : Int32) * 4 = 0 by decide, Int32.zero_add]
  refine pk_le 4 i (fun z => absurd z (by omega)) (fun _ => br_t rfl ⟨?_, nm_r (e' := upd a3 i 0) ?_ (nm_r (nI_1 i) h)⟩)
  · rw [e]
    exact pk_in i 84 (by omega)
  · rw [e, nI_clamp (by omega)]
    rfl
theorem rs_learn {post : Int32 → St2 → Prop} {k pc r sc : Int32} {a1 a2 a3 a4 a5 a6 a7 a8 : Nat → Int32} (ha : a1 0 = 0) (hl : rs_L k a3) (hp : ∀ pc' b2 b3, rs_Z b3 → post 1 (1, 1, pc', r, sc, a1, b2, b3, a4, a5, a6, a7, a8)) : wpX_learn post (1, k, pc, r, sc, a1, a2, a3, a4, a5, a6, a7, a8) := by
  unfold wpX_learn
  rcases hl with rfl | ⟨rfl, hz⟩
  · refine rs_compE ha (br_f (by decide) (br_t rfl (nm_r (e' := (0 : Int32)) (by decide) ⟨2, br_f (by decide) ⟨pk_in 0 21 (by omega), br_t (by rw [rs_c0]; exact ha) (br_t (by decide) (br_t (by decide) ⟨pk_in 0 21 (by omega), nm_e ⟨5, ?_⟩⟩))⟩⟩)))
    exact rs_l103 (i := 0) (y := 1) (by omega) rfl rfl (rs_l103 (i := 1) (y := 2) (by omega) rfl rfl (rs_l103 (i := 2) (y := 3) (by omega) rfl rfl (rs_l103 (i := 3) (y := 4) (by omega) rfl rfl (br_t (by decide) (nm_r (e' := (-1 : Int32)) (by decide) (br_t (by decide) (hp _ _ _ (rs_Z4 a3))))))))
  · exact rs_compE ha (br_f (by decide) (br_f (by decide) (hp _ _ _ hz)))
theorem rs_fixN {post : Int32 → St2 → Prop} {x c k pc r sc : Int32} {a1 a2 a3 a4 a5 a6 a7 a8 : Nat → Int32} (hx : ¬ rs_R x) (hp : post 0 (c, k, pc, r, sc, a1, a2, a3, a4, a5, a6, a7, a8)) : wpX_fixed post (c, k, pc, r, sc, a1, a2, a3, a4, a5, a6, a7, a8) x := by
  unfold wpX_fixed
  exact rs_role (fun z => absurd z hx) (fun _ => br_t rfl hp)
theorem rs_fixE {post : Int32 → St2 → Prop} {x k pc r sc : Int32} {a1 a2 a3 a4 a5 a6 a7 a8 : Nat → Int32} (hx : rs_R x) (ha : a1 0 = 0) (hl : rs_L k a3) (hp : ∀ pc' b2 b3, rs_Z b3 → post 1 (1, 1, pc', r, sc, a1, b2, b3, a4, a5, a6, a7, a8)) : wpX_fixed post (1, k, pc, r, sc, a1, a2, a3, a4, a5, a6, a7, a8) x := by
  unfold wpX_fixed
  refine rs_role (fun _ => br_f (by decide) (rs_learn ha hl (fun pc' b2 b3 hz => ?_))) (fun z => absurd hx z)
  obtain ⟨n, hn, rfl⟩ := rs_roleN hx
  refine br_f (by decide) ⟨pk_in n 84 (by omega), br_f ?_ (hp pc' b2 b3 hz)⟩
  rw [nI_clamp (by omega), hz n hn]
  decide
theorem rs_sizeE {post : Int32 → St2 → Prop} {x k pc r sc : Int32} {a1 a2 a3 a4 a5 a6 a7 a8 : Nat → Int32} (ha : a1 0 = 0) (hl : rs_L k a3) (h7 : a7 0 = 0)
    (h1 : rs_R x → ∀ k' pc' b2 b3, rs_L k' b3 → post 0 (1, k', pc', r, sc, a1, b2, b3, a4, a5, a6, a7, a8))
    (h0 : ¬ rs_R x → ∀ k' pc' b2 b3, rs_L k' b3 → post (-1) (1, k', pc', r, sc, a1, b2, b3, a4, a5, a6, a7, a8)) : wpX_size post (1, k, pc, r, sc, a1, a2, a3, a4, a5, a6, a7, a8) x := by
  unfold wpX_size
  by_cases hx : rs_R x
  · refine rs_fixE hx ha hl (fun pc' b2 b3 hz => ?_)
    have q := h1 hx 1 pc' b2 b3 (Or.inr ⟨rfl, hz⟩)
    obtain ⟨n, hn, rfl⟩ := rs_roleN hx
    have e : b3 (nI n).toNatClampNeg = 0 := by
      rw [nI_clamp (by omega)]
      exact hz n hn
    refine br_f (by decide) ⟨pk_in n 84 (by omega), ?_⟩
    rw [e, rs_c0, h7]
    exact ⟨pk_in 0 48 (by omega), q⟩
  · exact rs_fixN hx (br_t rfl (h0 hx k pc a2 a3 hl))
theorem rs_s21 {post : Int32 → St2 → Prop} {c k pc r sc : Int32} {a1 a2 a3 a4 a5 a6 a7 a8 : Nat → Int32} {n i : Nat} {x y : Int32} (hi : i < 4) (hx : x = nI i) (hy : y = nI (i + 1)) (hz : rs_Z a3)
    (h : wX_start_21 post c k pc r sc n y a1 a2 a3 a4 a5 a6 a7 (upd a8 i 0)) : wX_start_21 post c k pc r sc (n + 1) x a1 a2 a3 a4 a5 a6 a7 a8 := by
  subst hx hy
  refine pk_le 4 i (fun z => absurd z (by omega)) (fun _ => ⟨pk_in i 84 (by omega), pk_in i 4 hi, nm_r (e' := upd a8 i 0) ?_ (nm_r (nI_1 i) h)⟩)
  rw [nI_clamp (by omega), hz i hi]
  rfl
theorem rs_startE {post : Int32 → St2 → Prop} {k pc r sc : Int32} {a1 a2 a3 a4 a5 a6 a7 a8 : Nat → Int32} (ha : a1 0 = 0) (hl : rs_L k a3)
    (hp : ∀ pc' b2 b3 b8, rs_Z b8 → post 1 (1, 1, pc', 1, 0, a1, b2, b3, a4, a5, a6, a7, b8)) : wpX_start post (1, k, pc, r, sc, a1, a2, a3, a4, a5, a6, a7, a8) := by
  have R : ∀ n, n < 4 → rs_R (nI n) := by
    intro n hn
    exact ⟨fun z => absurd ((nI_ltI (by omega) (by omega)).mp (show nI n < nI 0 from z)) (by omega), nI_ge (b := 4) hn (by decide)⟩
  unfold wpX_start wpX_fit
  refine rs_fixE (R 0 (by omega)) ha hl (fun p0 c0 d0 z0 => br_f (by decide) ?_)
  refine rs_fixE (R 1 (by omega)) ha (Or.inr ⟨rfl, z0⟩) (fun p1 c1 d1 z1 => br_f (by decide) ?_)
  refine rs_fixE (R 2 (by omega)) ha (Or.inr ⟨rfl, z1⟩) (fun p2 c2 d2 z2 => br_f (by decide) ?_)
  refine rs_fixE (R 3 (by omega)) ha (Or.inr ⟨rfl, z2⟩) (fun p3 c3 d3 z3 => br_f (by decide) (br_f (by decide) ⟨5, ?_⟩))
  exact rs_s21 (i := 0) (y := 1) (by omega) rfl rfl z3 (rs_s21 (i := 1) (y := 2) (by omega) rfl rfl z3 (rs_s21 (i := 2) (y := 3) (by omega) rfl rfl z3 (rs_s21 (i := 3) (y := 4) (by omega) rfl rfl z3 (br_t (by decide) (hp _ _ _ _ (rs_Z4 a8))))))
theorem rs_possE {post : Int32 → Prop} {p q l k pc sc : Int32} {a1 a2 a3 a4 a5 a6 a7 a8 : Nat → Int32} (hz : rs_Z a8) (hp : post 0) : wpX_possible post (1, k, pc, 1, sc, a1, a2, a3, a4, a5, a6, a7, a8) p q l := by
  refine br_f (by decide) (rs_role (fun h => br_f (by decide) (rs_role (fun g => br_f (by decide) (br_c (fun _ => ?_) (fun _ => hp))) (fun _ => br_t rfl hp))) (fun _ => br_t rfl hp))
  obtain ⟨n, hn, rfl⟩ := rs_roleN h
  obtain ⟨m, hm, rfl⟩ := rs_roleN g
  exact ⟨pk_in n 4 hn, nm_r (e' := (0 : Int32)) (by rw [nI_clamp (by omega)]; exact hz n hn) ⟨pk_in m 4 hm, nm_e (br_t rfl (br_t rfl hp))⟩⟩
theorem rs_dutyE {post : Int32 → Prop} {x k pc sc : Int32} {a1 a2 a3 a4 a5 a6 a7 a8 : Nat → Int32} (hz : rs_Z a8) (h1 : rs_R x → post 0) (h0 : ¬ rs_R x → post (-1)) : wpX_duty post (1, k, pc, 1, sc, a1, a2, a3, a4, a5, a6, a7, a8) x := by
  refine br_f (by decide) (rs_role (fun h => br_f (by decide) ?_) (fun h => br_t rfl (h0 h)))
  have q := h1 h
  obtain ⟨n, hn, rfl⟩ := rs_roleN h
  exact ⟨pk_in n 4 hn, br_t (by rw [nI_clamp (by omega)]; exact hz n hn) q⟩
end
section
/-! the law's last row: the list is not complete -/
theorem rs_173n {post : Int32 → St0 → Prop} {mc ms kc ks : Nat} {z : Int32} (hp : post 1 ()) : wL_lawOf_173 post mc ms 0 0 (-1) 0 z (-1) (-1) kc ks :=
  br_t rfl (br_t rfl (br_t rfl (br_t rfl (br_t rfl hp))))
theorem rs_146n {post : Int32 → St0 → Prop} {mc ms kc ks : Nat} {z g : Int32} (hp : post 1 ()) : wL_lawOf_146 post mc ms 0 (-1) 0 0 (-1) 0 z g g kc ks :=
  br_t rfl (br_t rfl (br_t rfl (rs_173n hp)))
theorem rs_132n {post : Int32 → St0 → Prop} {mc ms kc ks : Nat} {z g b : Int32} (hg : b = 0 → g = -1) (hg' : ¬ b = 0 → g = 1) (hp : post 1 ()) : wL_lawOf_132 post mc ms g 0 (-1) 0 0 (-1) b 0 z kc ks :=
  br_c (fun e => by rw [hg e]; exact rs_146n hp) (fun e => by rw [hg' e]; exact rs_146n hp)
theorem rs_105n {post : Int32 → St0 → Prop} {mc ms kc ks : Nat} {t x g b : Int32} (ht : ¬ t = 0) (hg : b = 0 → g = -1) (hg' : ¬ b = 0 → g = 1) (hp : post 1 ()) : wL_lawOf_105 post mc ms t x g 0 (-1) 0 0 (-1) b kc ks :=
  br_f ht (br_c (fun _ => rs_132n hg hg' hp) (fun _ => br_c (fun _ => rs_132n hg hg' hp) (fun _ => rs_132n hg hg' hp)))
theorem rs_88n {post : Int32 → St0 → Prop} {mc ms kc ks : Nat} {t x : Int32} (ht : ¬ t = 0) (hp : post 1 ()) : wL_lawOf_88 post mc ms t x (-1) 0 (-1) 0 0 (-1) kc ks :=
  br_f ht (br_t rfl (rs_105n ht (fun _ => rfl) (fun e => absurd rfl e) hp))
theorem rs_89n {post : Int32 → St0 → Prop} {mc ms kc ks : Nat} {t x : Int32} (ht : ¬ t = 0) (hp : post 1 ()) : wL_lawOf_89 post mc ms t x 1 0 (-1) 0 0 (-1) 1 kc ks :=
  br_f ht (br_f (by decide) (rs_105n ht (fun e => absurd e (by decide)) (fun _ => rfl) hp))
/-! the law's last row: the one token is 0 -/
theorem rs_R3 {x : Int32} : rs_R x ↔ ¬ x < 0 ∧ ¬ 3 < x := by
  have e2 : (4 : Int32).toInt = 4 := by decide
  have e3 : (3 : Int32).toInt = 3 := by decide
  unfold rs_R
  rw [Int32.le_iff_toInt_le, Int32.lt_iff_toInt_lt (x := 3)]
  constructor
  · rintro ⟨a, b⟩
    exact ⟨a, by omega⟩
  · rintro ⟨a, b⟩
    exact ⟨a, by omega⟩
theorem rs_131e {post : Int32 → St0 → Prop} {mc ms kc ks : Nat} (hp : post 1 ()) : wL_lawOf_131 post mc ms 1 1 (-1) 1 0 (-1) 1 1 kc ks :=
  br_f (by decide) (br_t rfl (br_t rfl (br_f (by decide) (br_t rfl (br_t rfl (br_t rfl (br_t rfl (br_f (by decide) (br_t rfl (br_t rfl hp))))))))))
theorem rs_132e {post : Int32 → St0 → Prop} {mc ms kc ks : Nat} (hp : post 1 ()) : wL_lawOf_132 post mc ms 1 1 0 1 0 0 1 1 1 kc ks :=
  br_f (by decide) (br_t rfl (br_t rfl (br_f (by decide) (br_f (by decide) (br_t rfl (br_t rfl (br_t rfl (br_f (by decide) (br_f (by decide) (br_t rfl hp))))))))))
theorem rs_88e0 {post : Int32 → St0 → Prop} {mc ms kc ks : Nat} {x : Int32} (hx : ¬ rs_R x) (hp : post 1 ()) : wL_lawOf_88 post mc ms 0 x 1 1 (-1) 1 0 (-1) kc ks :=
  br_t rfl (br_t rfl (br_c (fun _ => rs_131e hp) (fun a => br_c (fun _ => rs_131e hp) (fun b => absurd (rs_R3.mpr ⟨a, b⟩) hx))))
theorem rs_88e1 {post : Int32 → St0 → Prop} {mc ms kc ks : Nat} {x : Int32} (hx : rs_R x) (hp : post 1 ()) : wL_lawOf_88 post mc ms 0 x 1 1 0 1 0 0 kc ks :=
  br_t rfl (br_t rfl (br_f (rs_R3.mp hx).1 (br_f (rs_R3.mp hx).2 (rs_132e hp))))
/-! the law over five ints -/
theorem rs_law {post : Int32 → St0 → Prop} (t x r s l : Int32) (hp : post 1 ()) : wpL_lawOf post 90 1440 () t x r s l := by
  refine ⟨by omega, by omega, 89, 1427, by omega, by omega, by omega, by omega, by omega, by omega, by omega, by omega, by omega, by omega, by omega, by omega, by omega, by omega, by omega, by omega, by omega, by omega, ?_⟩
  refine rs_write (fun h => ?_) (fun h0 hM => ?_)
  · rcases h with rfl | hM
    · have ha : upd (fun _ => 0) 0 (0 : Int32).toInt8.toInt32 0 = 0 := by rw [pk_us]; rfl
      refine rs_compE ha (rs_sizeE ha (Or.inl rfl) rfl (fun hx k pc b2 b3 hl => ?_) (fun hx k pc b2 b3 hl => ?_))
      · exact rs_startE ha hl (fun pc' c2 c3 c8 hz => rs_possE hz (rs_dutyE hz (fun _ => br_t (by decide) (rs_88e1 hx hp)) (fun z => absurd hx z)))
      · exact rs_startE ha hl (fun pc' c2 c3 c8 hz => rs_possE hz (rs_dutyE hz (fun z => absurd z hx) (fun _ => br_t (by decide) (rs_88e0 hx hp))))
    · have ha : ¬ upd (fun _ => 0) 0 t.toInt8.toInt32 0 = 0 := by rw [pk_us]; exact rs_mbyte hM
      have ho : rs_O (1, 0, 0, 0, 0, upd (fun _ => 0) 0 t.toInt8.toInt32, (fun _ => 0), (fun _ => 0), (fun _ => 0), (fun _ => 0), (fun _ => 0), (fun _ => 0), (fun _ => 0)) := fun post hp => rs_comp1 ha hp
      exact ho _ (rs_sizeO ho (rs_startO ho (rs_possO (rs_dutyO (br_f hM.1 (br_f hM.2.1 (br_f hM.2.2 (rs_89n (rs_not0 hM) hp))))))))
  · have ho : rs_O (0, 0, 0, 0, 0, (fun _ => 0), (fun _ => 0), (fun _ => 0), (fun _ => 0), (fun _ => 0), (fun _ => 0), (fun _ => 0), (fun _ => 0)) := fun post hp => rs_comp0 hp
    exact ho _ (rs_sizeO ho (rs_startO ho (rs_possO (rs_dutyO (br_c (fun _ => rs_88n h0 hp) (fun a => br_c (fun _ => rs_88n h0 hp) (fun b => br_c (fun _ => rs_88n h0 hp) (fun c => absurd ⟨a, b, c⟩ hM))))))))
theorem rs_cell {post : Int32 → Prop} {L : Nat} {xs : Nat → Int32} {x : Int32} (k : Nat) (hk : x = nI k) (hk' : k < 2 ^ 31) (hL : L ≤ 5) (h : ∀ v, post v) : wpL_cellAt post L xs () x := by
  subst hk
  exact br_c (fun _ => h _) (fun z => ⟨vp_in_nI ((Nat.lt_or_ge k L).elim id (fun g => absurd (nI_le g hk') z)) (by omega), h _⟩)
theorem i_vc (xs : Nat → Int32) (L : Nat) (hL : L ≤ 5) : wpL_law (fun r => r = 1) L xs :=
  rs_cell 0 rfl (by decide) hL (fun t => rs_cell 1 rfl (by decide) hL (fun x => rs_cell 2 rfl (by decide) hL (fun r => rs_cell 3 rfl (by decide) hL (fun s => rs_cell 4 rfl (by decide) hL (fun l => ⟨90, 1440, by omega, by omega, rs_law t x r s l rfl⟩)))))
end
