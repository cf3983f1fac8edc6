section
/-! pure rows -/
theorem am_z20 : vp_in (0 : Int32) 20 := vp_in_nI (n := 0) (by decide) (by decide)
theorem am_z48 : vp_in (0 : Int32) 48 := vp_in_nI (n := 0) (by decide) (by decide)
theorem am_byte : ∀ t, t < 128 → (nI t).toInt8.toInt32 = nI t := by decide +kernel
theorem am_sh1 : ∀ t, t < 128 → ¬ nI t >>> ((3 : Int32) &&& 31) = -1 := by decide +kernel
theorem am_sh3 : ∀ t, t < 128 → ¬ nI t >>> ((3 : Int32) &&& 31) = -3 := by decide +kernel
theorem am_nm1 : ∀ t, t < 128 → ¬ nI t = -1 := by decide +kernel
theorem am_63 (x : Int32) : 63 < x ↔ 64 ≤ x := by
  rw [Int32.lt_iff_toInt_lt, Int32.le_iff_toInt_le]
  have h1 : (63 : Int32).toInt = 63 := by decide
  have h2 : (64 : Int32).toInt = 64 := by decide
  omega
/-- a place written by emit and taken over by commit -/
theorem am_put (g h : Nat → Int32) {x : Int32} {t : Nat} (ht : t < 128) (hx : x = nI t) : upd g (0 : Int32).toNatClampNeg (vp_nar .byte (upd h (0 : Int32).toNatClampNeg x.toInt8.toInt32 (0 : Int32).toNatClampNeg)) (0 : Int32).toNatClampNeg = nI t := by
  rw [pk_us, pk_us, pk_vb, hx]
  exact am_byte t ht

/-! the methods over an empty map (count 0) -/
theorem am_find0 {post : Int32 → Prop} {m : Int32} {a1 a2 a3 a4 a5 a6 : Nat → Int32} {p : Int32} (h : post (-1)) : wpX_find post (0, m, a1, a2, a3, a4, a5, a6) p :=
  nm_e ⟨1, br_f (by decide) (br_t (by decide) h)⟩
theorem am_tag0 {post : Int32 → Prop} {m : Int32} {a1 a2 a3 a4 a5 a6 : Nat → Int32} {p : Int32} (h0 : (p < 0 ∨ 63 < p) → post (-1)) (h1 : ¬ p < 0 → ¬ 63 < p → post (-3)) : wpX_tag post (0, m, a1, a2, a3, a4, a5, a6) p :=
  br_c (fun z => br_t rfl (h0 (Or.inl z))) (fun z => br_c (fun y => br_t rfl (h0 (Or.inr ((am_63 p).mpr y)))) (fun y => br_f (by decide) (am_find0 (br_f (by decide) (h1 z (fun w => y ((am_63 p).mp w)))))))
theorem am_area0 {post : Int32 → Prop} {m : Int32} {a1 a2 a3 a4 a5 a6 : Nat → Int32} {p : Int32} (h : post (-3)) : wpX_areaOf post (0, m, a1, a2, a3, a4, a5, a6) p :=
  br_c (fun _ => br_t rfl (br_f (by decide) h)) (fun _ => br_c (fun _ => br_t rfl (br_f (by decide) h)) (fun _ => br_f (by decide) (am_find0 (br_f (by decide) h))))
theorem am_pos {x y : Int32} (h0 : ¬ x < 0) (h1 : ¬ 64 ≤ x) (h2 : ¬ y < 1) (h3 : ¬ 64 - x < y) : ∃ f l : Nat, x = nI f ∧ y = nI l ∧ 1 ≤ l ∧ f + l ≤ 64 := by
  obtain ⟨f, hf, rfl⟩ := nI_of h0
  have h20 : ¬ y < 0 := by
    intro z
    apply h2
    rw [Int32.lt_iff_toInt_lt] at z ⊢
    have e0 : (0 : Int32).toInt = 0 := by decide
    have e1 : (1 : Int32).toInt = 1 := by decide
    omega
  obtain ⟨l, hl, rfl⟩ := nI_of h20
  have f64 : f < 64 := by
    rcases Nat.lt_or_ge f 64 with z | z
    · exact z
    · exact absurd (show (64 : Int32) ≤ nI f from nI_le (a := 64) z hf) h1
  have l1 : 1 ≤ l := by
    rcases Nat.lt_or_ge l 1 with z | z
    · exact absurd (show nI l < (1 : Int32) from nI_lt (b := 1) z (by decide)) h2
    · exact z
  have e : (64 : Int32) - nI f = nI (64 - f) := pk_sub (a := 64) (by omega)
  rw [e] at h3
  refine ⟨f, l, rfl, rfl, l1, ?_⟩
  rcases Nat.lt_or_ge (64 - f) l with z | z
  · exact absurd (nI_lt z hl) h3
  · omega
theorem am_lt_add {f l : Nat} (l1 : 1 ≤ l) (fl : f + l ≤ 64) : ¬ nI f + nI l ≤ nI f := by
  rw [nI_add]
  exact nI_ge (by omega) (by omega)
theorem am_allows0 {post : Int32 → Prop} {m : Int32} {a1 a2 a3 a4 a5 a6 : Nat → Int32} {p l r : Int32} (h : post 0) : wpX_allows post (0, m, a1, a2, a3, a4, a5, a6) p l r := by
  refine br_c (fun _ => br_t rfl h) (fun h0 => br_c (fun _ => br_t rfl h) (fun h1 => br_c (fun _ => br_t rfl h) (fun h2 => br_c (fun _ => br_t rfl h) (fun h3 => br_f (by decide) (br_c (fun _ => h) (fun _ => br_c (fun _ => am_find0 ?_) (fun _ => h)))))))
  obtain ⟨f, k, rfl, rfl, k1, fk⟩ := am_pos h0 h1 h2 h3
  exact ⟨1, br_f (am_lt_add k1 fk) (br_t (by decide) (br_t rfl h))⟩
theorem am_long0 {post : Int32 → Prop} {m : Int32} {a1 a2 a3 a4 a5 a6 : Nat → Int32} (h : post 64) : wpX_longestFree post (0, m, a1, a2, a3, a4, a5, a6) :=
  ⟨1, br_t (by decide) (br_t (by decide) h)⟩
theorem am_next0 {post : Int32 → Prop} {m : Int32} {a1 a2 a3 a4 a5 a6 : Nat → Int32} {t p : Int32} (h : post (-3)) : wpX_nextWith post (0, m, a1, a2, a3, a4, a5, a6) t p :=
  ⟨1, br_t (by decide) h⟩

/-! the methods over a map of one area: f up to e, kind k -/
theorem am_find1 {post : Int32 → Prop} {m : Int32} {a1 a2 a3 a4 a5 a6 : Nat → Int32} {p f e : Int32} (k1 : a1 (0 : Int32).toNatClampNeg = f) (k2 : a2 (0 : Int32).toNatClampNeg = e)
    (hi : p < e → f ≤ p → post 0) (ho : (¬ p < e ∨ ¬ f ≤ p) → post (-1)) : wpX_find post (1, m, a1, a2, a3, a4, a5, a6) p := by
  subst k1 k2
  refine nm_r (show (1 : Int32) - 1 = 0 by decide) ⟨2, br_f (by decide) (br_f (by decide) (nm_r (show ((0 : Int32) + 0) >>> ((1 : Int32) &&& 31) = 0 by decide) ⟨am_z20, br_c (fun y => ⟨am_z20, br_c (fun z => hi y z) (fun z => nm_e (nm_e ?_))⟩) (fun y => nm_e (nm_e ?_))⟩))⟩
  · exact br_f (by decide) (br_t (by decide) (ho (Or.inr z)))
  · exact br_f (by decide) (br_t (by decide) (ho (Or.inl y)))
theorem am_tag1 {post : Int32 → Prop} {m : Int32} {a1 a2 a3 a4 a5 a6 : Nat → Int32} {p f e k : Int32} (k1 : a1 (0 : Int32).toNatClampNeg = f) (k2 : a2 (0 : Int32).toNatClampNeg = e) (k3 : a3 (0 : Int32).toNatClampNeg = k)
    (hn : (p < 0 ∨ 63 < p) → post (-1)) (ho : ¬ p < 0 → ¬ 63 < p → (¬ p < e ∨ ¬ f ≤ p) → post (-3)) (hi : ¬ p < 0 → ¬ 63 < p → p < e → f ≤ p → post (k >>> ((3 : Int32) &&& 31))) : wpX_tag post (1, m, a1, a2, a3, a4, a5, a6) p := by
  subst k3
  exact br_c (fun z => br_t rfl (hn (Or.inl z))) (fun z => br_c (fun y => br_t rfl (hn (Or.inr ((am_63 p).mpr y)))) (fun y => br_f (by decide) (am_find1 k1 k2
    (fun u v => br_t (by decide) ⟨am_z20, hi z (fun w => y ((am_63 p).mp w)) u v⟩)
    (fun u => br_f (by decide) (ho z (fun w => y ((am_63 p).mp w)) u)))))
theorem am_areaI {post : Int32 → Prop} {m : Int32} {a1 a2 a3 a4 a5 a6 : Nat → Int32} {p f e : Int32} (k1 : a1 (0 : Int32).toNatClampNeg = f) (k2 : a2 (0 : Int32).toNatClampNeg = e)
    (q0 : ¬ p < 0) (q1 : ¬ 63 < p) (q2 : p < e) (q3 : f ≤ p) (h : post 0) : wpX_areaOf post (1, m, a1, a2, a3, a4, a5, a6) p :=
  br_f q0 (br_f (fun y => q1 ((am_63 p).mpr y)) (br_f (by decide) (am_find1 k1 k2 (fun _ _ => br_t (by decide) h) (fun u => absurd (u.elim (fun z => z q2) (fun z => z q3)) id))))
theorem am_areaO {post : Int32 → Prop} {m : Int32} {a1 a2 a3 a4 a5 a6 : Nat → Int32} {p f e : Int32} (k1 : a1 (0 : Int32).toNatClampNeg = f) (k2 : a2 (0 : Int32).toNatClampNeg = e)
    (q : (p < 0 ∨ 63 < p) ∨ (¬ p < e ∨ ¬ f ≤ p)) (h : post (-3)) : wpX_areaOf post (1, m, a1, a2, a3, a4, a5, a6) p :=
  br_c (fun _ => br_t rfl (br_f (by decide) h)) (fun z => br_c (fun _ => br_t rfl (br_f (by decide) h)) (fun y => br_f (by decide) (am_find1 k1 k2
    (fun u v => absurd q (fun q => q.elim (fun q => q.elim z (fun w => y ((am_63 p).mp w))) (fun q => q.elim (fun w => w u) (fun w => w v))))
    (fun _ => br_f (by decide) h))))
def am_may (r k : Int32) : Int32 := if ¬ r < 0 ∧ ¬ 7 < r ∧ r &&& (k ^^^ (-1)) = 0 then 1 else 0
theorem am_le7 {r : Int32} : r ≤ 7 ↔ ¬ 7 < r := by
  rw [Int32.lt_iff_toInt_lt, Int32.le_iff_toInt_le]
  omega
theorem am_allows1 {post : Int32 → Prop} {m : Int32} {a1 a2 a3 a4 a5 a6 : Nat → Int32} {r k : Int32} {f l : Nat} (l1 : 1 ≤ l) (fl : f + l ≤ 64) (k1 : a1 (0 : Int32).toNatClampNeg = nI f) (k2 : a2 (0 : Int32).toNatClampNeg = nI (f + l)) (k3 : a3 (0 : Int32).toNatClampNeg = k)
    (h : post (am_may r k)) : wpX_allows post (1, m, a1, a2, a3, a4, a5, a6) (nI f) (nI l) r := by
  subst k3
  have e64 : (64 : Int32) - nI f = nI (64 - f) := pk_sub (a := 64) (by omega)
  have d1 : ¬ nI f < 0 := nI_pos (by omega)
  have d2 : ¬ (64 : Int32) ≤ nI f := nI_ge (b := 64) (by omega) (by decide)
  have d3 : ¬ nI l < 1 := nI_nlt (b := 1) (by omega) (by omega)
  have d4 : ¬ (64 : Int32) - nI f < nI l := by
    rw [e64]
    exact nI_nlt (by omega) (by omega)
  unfold am_may at h
  refine br_f d1 (br_f d2 (br_f d3 (br_f d4 (br_f (by decide) (br_c (fun z => ?_) (fun z => br_c (fun y => ?_) (fun y => ?_)))))))
  · rw [if_neg (fun w => w.1 z)] at h
    exact h
  · refine am_find1 k1 k2 (fun _ _ => ⟨2, ?_⟩) (fun u => absurd (u.elim (fun w => w (nI_lt (by omega) (by omega))) (fun w => w (nI_le (Nat.le_refl f) (by omega)))) id)
    refine br_f (am_lt_add l1 fl) (br_f (by decide) (br_f (by decide) (br_f (by decide) ⟨am_z20, br_f ?_ ⟨am_z20, br_c (fun x => ⟨am_z20, nm_e (nm_e (br_t ?_ ?_))⟩) (fun x => ?_)⟩⟩)))
    · rw [k1]
      exact nI_nlt (Nat.le_refl f) (by omega)
    · rw [k2, nI_add]
      exact nI_le (Nat.le_refl _) (by omega)
    · rw [if_pos ⟨z, am_le7.mp y, x⟩] at h
      exact h
    · rw [if_neg (fun w => x w.2.2)] at h
      exact h
  · rw [if_neg (fun w => y (am_le7.mpr w.2.1))] at h
    exact h
theorem am_long1 {post : Int32 → Prop} {m : Int32} {a1 a2 a3 a4 a5 a6 : Nat → Int32} {f l : Nat} (fl : f + l ≤ 64) (k1 : a1 (0 : Int32).toNatClampNeg = nI f) (k2 : a2 (0 : Int32).toNatClampNeg = nI (f + l))
    (h : post (nI (max f (64 - f - l)))) : wpX_longestFree post (1, m, a1, a2, a3, a4, a5, a6) := by
  have e0 : nI f - 0 = nI f := by
    rw [← nI_0, pk_sub (Nat.zero_le f), Nat.sub_zero]
  have e64 : (64 : Int32) - nI (f + l) = nI (64 - f - l) := by
    rw [show (64 : Int32) = nI 64 from rfl, pk_sub fl, Nat.sub_sub]
  refine ⟨2, br_f (by decide) ⟨am_z20, ?_⟩⟩
  rw [k1, e0]
  refine br_t (nI_pos' (by omega)) ⟨am_z20, nm_r k2 (nm_e (br_t (by decide) ?_))⟩
  rw [e64]
  refine pk_le f (64 - f - l) (fun z => ?_) (fun z => ?_)
  · rw [Nat.max_eq_right z] at h
    exact h
  · rw [Nat.max_eq_left (by omega)] at h
    exact h
theorem am_nextO {post : Int32 → Prop} {m : Int32} {a1 a2 a3 a4 a5 a6 : Nat → Int32} {t p k : Int32} (k3 : a3 (0 : Int32).toNatClampNeg = k) (ht : ¬ k >>> ((3 : Int32) &&& 31) = t)
    (h : post (-3)) : wpX_nextWith post (1, m, a1, a2, a3, a4, a5, a6) t p := by
  subst k3
  exact ⟨2, br_f (by decide) ⟨am_z20, br_f ht (nm_e (br_t (by decide) h))⟩⟩
theorem am_nextI {post : Int32 → Prop} {m : Int32} {a1 a2 a3 a4 a5 a6 : Nat → Int32} {p f e k : Int32} (k1 : a1 (0 : Int32).toNatClampNeg = f) (k2 : a2 (0 : Int32).toNatClampNeg = e) (k3 : a3 (0 : Int32).toNatClampNeg = k)
    (q2 : ¬ e ≤ p) (q3 : f ≤ p) (h : post p) : wpX_nextWith post (1, m, a1, a2, a3, a4, a5, a6) (k >>> ((3 : Int32) &&& 31)) p := by
  subst k1 k2 k3
  exact ⟨1, br_f (by decide) ⟨am_z20, br_t rfl ⟨am_z20, br_f q2 ⟨am_z20, br_t q3 h⟩⟩⟩⟩

/-! map over the new object -/
def am_good (x y k : Int32) : Prop := ¬ x < 0 ∧ ¬ 64 ≤ x ∧ ¬ y < 1 ∧ ¬ 64 - x < y ∧ ¬ k < 0 ∧ ¬ 127 < k
theorem am_mapB {post : Int32 → St2 → Prop} {s : St2} {x y k : Int32} (hb : ¬ am_good x y k) (h : post (-1) s) : wpX_map post s x y k := by
  obtain ⟨c, m, a1, a2, a3, a4, a5, a6⟩ := s
  exact br_c (fun _ => br_t rfl h) (fun h0 => br_c (fun _ => br_t rfl h) (fun h1 => br_c (fun _ => br_t rfl h) (fun h2 => br_c (fun _ => br_t rfl h) (fun h3 => br_f (by decide) (br_c (fun _ => br_t rfl h) (fun h4 => br_c (fun _ => br_t rfl h) (fun h5 => absurd ⟨h0, h1, h2, h3, h4, h5⟩ hb)))))))
theorem am_emit0 {post : St2 → Prop} {c : Int32} {a1 a2 a3 a4 a5 a6 : Nat → Int32} {x y k : Int32} (hxy : x < y)
    (h : post (c, 1, a1, a2, a3, upd a4 (0 : Int32).toNatClampNeg x.toInt8.toInt32, upd a5 (0 : Int32).toNatClampNeg y.toInt8.toInt32, upd a6 (0 : Int32).toNatClampNeg k.toInt8.toInt32)) : wpX_emit post (c, 0, a1, a2, a3, a4, a5, a6) x y k :=
  br_t hxy (br_t (by decide) (br_t rfl ⟨am_z48, nm_e ⟨am_z48, nm_e ⟨am_z48, nm_e (nm_r (show (0 : Int32) + 1 = 1 by decide) h)⟩⟩⟩))
theorem am_commit1 {post : Int32 → St2 → Prop} {c : Int32} {a1 a2 a3 a4 a5 a6 : Nat → Int32}
    (h : post 1 (1, 1, upd a1 (0 : Int32).toNatClampNeg (vp_nar .byte (a4 (0 : Int32).toNatClampNeg)), upd a2 (0 : Int32).toNatClampNeg (vp_nar .byte (a5 (0 : Int32).toNatClampNeg)), upd a3 (0 : Int32).toNatClampNeg (vp_nar .byte (a6 (0 : Int32).toNatClampNeg)), a4, a5, a6)) : wpX_commit post (c, 1, a1, a2, a3, a4, a5, a6) :=
  br_t (by decide) ⟨2, br_f (by decide) ⟨am_z48, am_z20, nm_e ⟨am_z48, am_z20, nm_e ⟨am_z48, am_z20, nm_e (nm_r (show (0 : Int32) + 1 = 1 by decide) (br_t (by decide) h))⟩⟩⟩⟩
theorem am_rewrite1 {post : Int32 → St2 → Prop} {m : Int32} {a1 a2 a3 a4 a5 a6 : Nat → Int32} {x y k : Int32} (hk : ¬ k = (-1)) (hxy : x < y)
    (h : post 1 (1, 1, upd a1 (0 : Int32).toNatClampNeg (vp_nar .byte (upd a4 (0 : Int32).toNatClampNeg x.toInt8.toInt32 (0 : Int32).toNatClampNeg)), upd a2 (0 : Int32).toNatClampNeg (vp_nar .byte (upd a5 (0 : Int32).toNatClampNeg y.toInt8.toInt32 (0 : Int32).toNatClampNeg)), upd a3 (0 : Int32).toNatClampNeg (vp_nar .byte (upd a6 (0 : Int32).toNatClampNeg k.toInt8.toInt32 (0 : Int32).toNatClampNeg)), upd a4 (0 : Int32).toNatClampNeg x.toInt8.toInt32, upd a5 (0 : Int32).toNatClampNeg y.toInt8.toInt32, upd a6 (0 : Int32).toNatClampNeg k.toInt8.toInt32)) : wpX_rewrite post (0, m, a1, a2, a3, a4, a5, a6) x y k :=
  br_f hk ⟨1, br_t (by decide) (br_t rfl (am_emit0 hxy (am_commit1 ⟨by decide, h⟩)))⟩
theorem am_mapG {post : Int32 → St2 → Prop} {m : Int32} {a1 a2 a3 a4 a5 a6 : Nat → Int32} {f l k : Nat} (l1 : 1 ≤ l) (fl : f + l ≤ 64) (hk : k < 128)
    (h : ∀ b1 b2 b3 b4 b5 b6 : Nat → Int32, b1 (0 : Int32).toNatClampNeg = nI f → b2 (0 : Int32).toNatClampNeg = nI (f + l) → b3 (0 : Int32).toNatClampNeg = nI k → post 0 (1, 1, b1, b2, b3, b4, b5, b6)) :
    wpX_map post (0, m, a1, a2, a3, a4, a5, a6) (nI f) (nI l) (nI k) := by
  have e64 : (64 : Int32) - nI f = nI (64 - f) := pk_sub (a := 64) (by omega)
  have d1 : ¬ nI f < 0 := nI_pos (by omega)
  have d2 : ¬ (64 : Int32) ≤ nI f := nI_ge (b := 64) (by omega) (by decide)
  have d3 : ¬ nI l < 1 := nI_nlt (b := 1) (by omega) (by omega)
  have d4 : ¬ (64 : Int32) - nI f < nI l := by
    rw [e64]
    exact nI_nlt (by omega) (by omega)
  have d5 : ¬ nI k < 0 := nI_pos (by omega)
  have d6 : ¬ (127 : Int32) < nI k := nI_nlt (a := 127) (by omega) (by decide)
  have d7 : nI f < nI f + nI l := by
    rw [nI_add]
    exact nI_lt (by omega) (by omega)
  exact br_f d1 (br_f d2 (br_f d3 (br_f d4 (br_f (by decide) (br_f d5 (br_f d6 (br_f (by decide) ⟨1, br_t (by decide) (am_rewrite1 (am_nm1 k hk) d7 (br_f (by decide) (h _ _ _ _ _ _ (am_put _ _ (by omega) rfl) (am_put _ _ (by omega) (nI_add f l)) (am_put _ _ hk rfl))))⟩)))))))
end
section
/-! the law's last check, from its end -/
theorem am_301 {post : Int32 → St0 → Prop} {mc ms : Nat} {x3 x11 x15 z0 z1 : Int32} {kc ks : Nat} (h : post 1 ()) (h10 : z1 = z0) (h11a : x15 = 0 → x11 = -3) (h11b : ¬ x15 = 0 → x11 = x3) : wL_lawOf_301 post mc ms x3 x11 x15 z0 z1 kc ks :=
  br_t h10 (br_c (fun q => br_t (h11a q) h) (fun q => br_t (h11b q) h))
theorem am_282 {post : Int32 → St0 → Prop} {mc ms : Nat} {x3 x10 x11 x15 x16 x17 z0 z1 : Int32} {kc ks : Nat} (h : post 1 ()) (h9 : z1 = z0) (h10a : x16 ≤ x17 → x10 = x17) (h10b : ¬ x16 ≤ x17 → x10 = x16) (h11a : x15 = 0 → x11 = -3) (h11b : ¬ x15 = 0 → x11 = x3) : wL_lawOf_282 post mc ms x3 x10 x11 x15 x16 x17 z0 z1 kc ks :=
  br_t h9 (br_c (fun q => am_301 h (h10a q) h11a h11b) (fun q => am_301 h (h10b q) h11a h11b))
theorem am_246 {post : Int32 → St0 → Prop} {mc ms : Nat} {x2 x3 x4 x9 x10 x11 x13 x15 x16 x17 z0 z1 : Int32} {kc ks : Nat} (h : post 1 ()) (h8 : z1 = z0) (h9a : x13 = 0 → x9 = 0) (h9b : ¬ x13 = 0 → x9 = am_may x4 x2)
    (h10a : x16 ≤ x17 → x10 = x17) (h10b : ¬ x16 ≤ x17 → x10 = x16) (h11a : x15 = 0 → x11 = -3) (h11b : ¬ x15 = 0 → x11 = x3) : wL_lawOf_246 post mc ms x2 x3 x4 x9 x10 x11 x13 x15 x16 x17 z0 z1 kc ks := by
  refine br_t h8 (br_c (fun q => am_282 h (h9a q) h10a h10b h11a h11b) (fun q => br_c (fun q1 => ?_) (fun q1 => br_c (fun q2 => ?_) (fun q2 => br_c (fun q3 => ?_) (fun q3 => ?_)))))
  · exact am_282 h ((h9b q).trans (if_neg (fun w => w.1 q1))) h10a h10b h11a h11b
  · exact am_282 h ((h9b q).trans (if_neg (fun w => w.2.1 q2))) h10a h10b h11a h11b
  · exact am_282 h ((h9b q).trans (if_pos ⟨q1, q2, q3⟩)) h10a h10b h11a h11b
  · exact am_282 h ((h9b q).trans (if_neg (fun w => q3 w.2.2))) h10a h10b h11a h11b
theorem am_203 {post : Int32 → St0 → Prop} {mc ms : Nat} {x2 x3 x4 x7 x8 x9 x10 x11 x13 x14 x15 x16 x17 z0 z1 : Int32} {kc ks : Nat} (h : post 1 ()) (h6 : z1 = z0)
    (h7a : x14 = 0 → x7 = -1) (h7b : ¬ x14 = 0 → x15 = 0 → x7 = -3) (h7c : ¬ x14 = 0 → ¬ x15 = 0 → x7 = x2 >>> ((3 : Int32) &&& 31))
    (h8a : x15 = 0 → x8 = -3) (h8b : ¬ x15 = 0 → x8 = 0) (h9a : x13 = 0 → x9 = 0) (h9b : ¬ x13 = 0 → x9 = am_may x4 x2)
    (h10a : x16 ≤ x17 → x10 = x17) (h10b : ¬ x16 ≤ x17 → x10 = x16) (h11a : x15 = 0 → x11 = -3) (h11b : ¬ x15 = 0 → x11 = x3) : wL_lawOf_203 post mc ms x2 x3 x4 x7 x8 x9 x10 x11 x13 x14 x15 x16 x17 z0 z1 kc ks := by
  have T : ∀ z, x7 = z → wL_lawOf_230 post mc ms x2 x3 x4 x8 x9 x10 x11 x13 x15 x16 x17 z x7 kc ks := fun z hz =>
    br_t hz (br_c (fun q => am_246 h (h8a q) h9a h9b h10a h10b h11a h11b) (fun q => am_246 h (h8b q) h9a h9b h10a h10b h11a h11b))
  exact br_t h6 (br_c (fun q => T _ (h7a q)) (fun q => br_c (fun q1 => T _ (h7b q q1)) (fun q1 => T _ (h7c q q1))))

/-! the law where nothing is mapped -/
theorem am_bad113 {post : Int32 → St0 → Prop} {mc ms : Nat} {x0 x1 x2 x3 x4 x7 : Int32} {kc ks : Nat} (h : post 1 ()) (h7a : (x3 < 0 ∨ 63 < x3) → x7 = -1) (h7b : ¬ x3 < 0 → ¬ 63 < x3 → x7 = -3) :
    wL_lawOf_113 post mc ms x0 x1 x2 x3 x4 (-1) x7 (-3) 0 64 (-3) 0 kc ks := by
  have T : ∀ x14 : Int32, (x14 = 0 → x7 = -1) → (¬ x14 = 0 → x7 = -3) → wL_lawOf_130 post mc ms x0 x1 x2 x3 x4 (-1) x7 (-3) 0 64 (-3) 0 x14 kc ks := by
    intro x14 g1 g2
    refine br_t rfl (br_t rfl (br_t rfl (br_t rfl (am_203 h rfl g1 (fun w _ => g2 w) (fun _ w => absurd rfl w) (fun _ => rfl) (fun w => absurd rfl w) (fun _ => rfl) (fun w => absurd rfl w) (fun w => absurd w (by decide)) (fun _ => rfl) (fun _ => rfl) (fun w => absurd rfl w)))))
  exact br_c (fun q => T 0 (fun _ => h7a (Or.inl q)) (fun w => absurd rfl w)) (fun q => br_c (fun q1 => T 0 (fun _ => h7a (Or.inr q1)) (fun w => absurd rfl w)) (fun q1 => T 1 (fun w => absurd w (by decide)) (fun _ => h7b q q1)))
theorem am_bad {x0 x1 x2 x3 x4 : Int32} (hb : ¬ am_good x0 x1 x2) : wpL_lawOf (fun r _ => r = 1) 46 720 () x0 x1 x2 x3 x4 := by
  refine ⟨by decide, by decide, 45, 712, by decide, by decide, by decide, by decide, by decide, by decide, by decide, by decide, by decide, by decide, by decide, by decide, by decide, by decide, am_mapB hb ?_⟩
  have F : ∀ x7 : Int32, ((x3 < 0 ∨ 63 < x3) → x7 = -1) → (¬ x3 < 0 → ¬ 63 < x3 → x7 = -3) → wL_lawOf_113 (fun r _ => r = 1) 46 720 x0 x1 x2 x3 x4 (-1) x7 (-3) 0 64 (-3) 0 (1 + 45) (8 + 712) := fun x7 g1 g2 => am_bad113 rfl g1 g2
  have G : ∀ x7 : Int32, ((x3 < 0 ∨ 63 < x3) → x7 = -1) → (¬ x3 < 0 → ¬ 63 < x3 → x7 = -3) → ((x0 < 0 → (wL_lawOf_90 (fun r _ => r = 1) 46 720 x0 x1 x2 x3 x4 (-1) x7 (-3) 0 64 (-3) (1 + 45) (8 + 712))) ∧ (¬ x0 < 0 → (((63 < x0 → (wL_lawOf_90 (fun r _ => r = 1) 46 720 x0 x1 x2 x3 x4 (-1) x7 (-3) 0 64 (-3) (1 + 45) (8 + 712))) ∧ (¬ 63 < x0 → (((x1 < 1 → (wL_lawOf_90 (fun r _ => r = 1) 46 720 x0 x1 x2 x3 x4 (-1) x7 (-3) 0 64 (-3) (1 + 45) (8 + 712))) ∧ (¬ x1 < 1 → ((((64 - x0) < x1 → (wL_lawOf_90 (fun r _ => r = 1) 46 720 x0 x1 x2 x3 x4 (-1) x7 (-3) 0 64 (-3) (1 + 45) (8 + 712))) ∧ (¬ (64 - x0) < x1 → (wL_lawOf_91 (fun r _ => r = 1) 46 720 x0 x1 x2 x3 x4 (-1) x7 (-3) 0 64 (-3) 1 (1 + 45) (8 + 712))))))))))))) := by
    intro x7 g1 g2
    have B := F x7 g1 g2
    exact br_c (fun _ => br_t rfl B) (fun h0 => br_c (fun _ => br_t rfl B) (fun h1 => br_c (fun _ => br_t rfl B) (fun h2 => br_c (fun _ => br_t rfl B) (fun h3 => br_f (by decide) (br_c (fun _ => B) (fun h4 => br_c (fun _ => B) (fun h5 => absurd ⟨h0, fun w => h1 ((am_63 x0).mpr w), h2, h3, h4, h5⟩ hb)))))))
  exact am_tag0
    (fun q => am_area0 (am_allows0 (am_long0 (am_next0 (G (-1) (fun _ => rfl) (fun q0 q1 => absurd q (fun w => w.elim q0 q1)))))))
    (fun q0 q1 => am_area0 (am_allows0 (am_long0 (am_next0 (G (-3) (fun w => absurd w (fun w => w.elim q0 q1)) (fun _ _ => rfl))))))

/-! the law where the span is mapped -/
theorem am_159 {post : Int32 → St0 → Prop} {mc ms : Nat} {x2 x3 x4 x7 x8 x9 x10 x11 x14 x15 : Int32} {f l kc ks : Nat} (fl : f + l ≤ 64) (h : post 1 ())
    (h7a : x14 = 0 → x7 = -1) (h7b : ¬ x14 = 0 → x15 = 0 → x7 = -3) (h7c : ¬ x14 = 0 → ¬ x15 = 0 → x7 = x2 >>> ((3 : Int32) &&& 31))
    (h8a : x15 = 0 → x8 = -3) (h8b : ¬ x15 = 0 → x8 = 0) (h9 : x9 = am_may x4 x2) (h10 : x10 = nI (max f (64 - f - l))) (h11a : x15 = 0 → x11 = -3) (h11b : ¬ x15 = 0 → x11 = x3) :
    wL_lawOf_159 post mc ms (nI f) (nI l) x2 x3 x4 0 x7 x8 x9 x10 x11 1 x14 x15 kc ks := by
  have e64 : (64 : Int32) - nI f - nI l = nI (64 - f - l) := by
    rw [show (64 : Int32) = nI 64 from rfl, pk_sub (by omega), pk_sub (by omega)]
  refine br_f (by decide) (br_f (by decide) (br_f (by decide) (am_203 h rfl h7a h7b h7c h8a h8b (fun w => absurd w (by decide)) (fun _ => h9) ?_ ?_ h11a h11b)))
  · intro q
    rw [e64] at q ⊢
    rw [nI_leI (by omega) (by omega)] at q
    rw [h10, Nat.max_eq_right q]
  · intro q
    rw [e64] at q
    rw [nI_leI (by omega) (by omega)] at q
    rw [h10, Nat.max_eq_left (by omega)]
/-- the law's checks, given its answers: from the span's test on -/
theorem am_good91 {post : Int32 → St0 → Prop} {mc ms : Nat} {x3 x4 x7 x8 x9 x10 x11 : Int32} {f l k kc ks : Nat} (l1 : 1 ≤ l) (fl : f + l ≤ 64) (hk : k < 128)
    (H : wL_lawOf_113 post mc ms (nI f) (nI l) (nI k) x3 x4 0 x7 x8 x9 x10 x11 1 kc ks) :
    ((nI f < 0 → (wL_lawOf_90 post mc ms (nI f) (nI l) (nI k) x3 x4 0 x7 x8 x9 x10 x11 kc ks)) ∧ (¬ nI f < 0 → (((63 < nI f → (wL_lawOf_90 post mc ms (nI f) (nI l) (nI k) x3 x4 0 x7 x8 x9 x10 x11 kc ks)) ∧ (¬ 63 < nI f → (((nI l < 1 → (wL_lawOf_90 post mc ms (nI f) (nI l) (nI k) x3 x4 0 x7 x8 x9 x10 x11 kc ks)) ∧ (¬ nI l < 1 → ((((64 - nI f) < nI l → (wL_lawOf_90 post mc ms (nI f) (nI l) (nI k) x3 x4 0 x7 x8 x9 x10 x11 kc ks)) ∧ (¬ (64 - nI f) < nI l → (wL_lawOf_91 post mc ms (nI f) (nI l) (nI k) x3 x4 0 x7 x8 x9 x10 x11 1 kc ks)))))))))))) := by
  have e64 : (64 : Int32) - nI f = nI (64 - f) := pk_sub (a := 64) (by omega)
  have d1 : ¬ nI f < 0 := nI_pos (by omega)
  have d2 : ¬ (63 : Int32) < nI f := nI_nlt (a := 63) (by omega) (by decide)
  have d3 : ¬ nI l < 1 := nI_nlt (b := 1) (by omega) (by omega)
  have d4 : ¬ (64 : Int32) - nI f < nI l := by
    rw [e64]
    exact nI_nlt (by omega) (by omega)
  have d5 : ¬ nI k < 0 := nI_pos (by omega)
  have d6 : ¬ (127 : Int32) < nI k := nI_nlt (a := 127) (by omega) (by decide)
  exact br_f d1 (br_f d2 (br_f d3 (br_f d4 (br_f (by decide) (br_f d5 (br_f d6 H))))))
theorem am_nlt {x y : Int32} : ¬ x < y ↔ y ≤ x := by
  rw [Int32.lt_iff_toInt_lt, Int32.le_iff_toInt_le]
  omega
theorem am_goodL {x3 x4 : Int32} {f l k : Nat} (l1 : 1 ≤ l) (fl : f + l ≤ 64) (hk : k < 128) : wpL_lawOf (fun r _ => r = 1) 46 720 () (nI f) (nI l) (nI k) x3 x4 := by
  refine ⟨by decide, by decide, 45, 712, by decide, by decide, by decide, by decide, by decide, by decide, by decide, by decide, by decide, by decide, by decide, by decide, by decide, by decide, am_mapG l1 fl hk ?_⟩
  intro b1 b2 b3 b4 b5 b6 k1 k2 k3
  refine am_tag1 k1 k2 k3 (fun q => ?_) (fun q0 q1 q => ?_) (fun q0 q1 q2 q3 => ?_)
  · refine am_areaO k1 k2 (Or.inl q) (am_allows1 l1 fl k1 k2 k3 (am_long1 fl k1 k2 (am_nextO k3 (am_sh1 k hk) (am_good91 l1 fl hk ?_))))
    have T : wL_lawOf_129 (fun r _ => r = 1) 46 720 (nI f) (nI l) (nI k) x3 x4 0 (-1) (-3) (am_may x4 (nI k)) (nI (max f (64 - f - l))) (-3) 1 (1 + 45) (8 + 712) :=
      br_f (by decide) (br_t rfl (am_159 fl rfl (fun _ => rfl) (fun w => absurd rfl w) (fun w => absurd rfl w) (fun _ => rfl) (fun w => absurd rfl w) rfl rfl (fun _ => rfl) (fun w => absurd rfl w)))
    exact br_c (fun _ => T) (fun g => br_c (fun _ => T) (fun g1 => absurd q (fun w => w.elim g g1)))
  · refine am_areaO k1 k2 (Or.inr q) (am_allows1 l1 fl k1 k2 k3 (am_long1 fl k1 k2 (am_nextO k3 (am_sh3 k hk) (am_good91 l1 fl hk ?_))))
    have T : wL_lawOf_158 (fun r _ => r = 1) 46 720 (nI f) (nI l) (nI k) x3 x4 0 (-3) (-3) (am_may x4 (nI k)) (nI (max f (64 - f - l))) (-3) 1 1 (1 + 45) (8 + 712) :=
      am_159 fl rfl (fun w => absurd w (by decide)) (fun _ _ => rfl) (fun _ w => absurd rfl w) (fun _ => rfl) (fun w => absurd rfl w) rfl rfl (fun _ => rfl) (fun w => absurd rfl w)
    refine br_f q0 (br_f q1 (br_f (by decide) (br_f (by decide) (br_c (fun _ => T) (fun g => br_c (fun _ => T) (fun g1 => ?_))))))
    rw [nI_add] at g1
    exact absurd q (fun w => w.elim (fun u => g1 (am_nlt.mp u)) (fun u => u (am_nlt.mp g)))
  · have q2' : ¬ nI (f + l) ≤ x3 := fun w => am_nlt.mpr w q2
    refine am_areaI k1 k2 q0 q1 q2 q3 (am_allows1 l1 fl k1 k2 k3 (am_long1 fl k1 k2 (am_nextI k1 k2 k3 q2' q3 (am_good91 l1 fl hk ?_))))
    have q2'' : ¬ nI f + nI l ≤ x3 := by
      rw [nI_add]
      exact q2'
    exact br_f q0 (br_f q1 (br_f (by decide) (br_f (by decide) (br_f (am_nlt.mpr q3) (br_f q2'' (am_159 fl rfl (fun w => absurd w (by decide)) (fun _ w => absurd w (by decide)) (fun _ _ => rfl) (fun w => absurd w (by decide)) (fun _ => rfl) rfl rfl (fun w => absurd w (by decide)) (fun _ => rfl)))))))
theorem am_lawOf (x0 x1 x2 x3 x4 : Int32) : wpL_lawOf (fun r _ => r = 1) 46 720 () x0 x1 x2 x3 x4 := by
  by_cases hg : am_good x0 x1 x2
  · obtain ⟨h0, h1, h2, h3, h4, h5⟩ := hg
    obtain ⟨f, l, rfl, rfl, l1, fl⟩ := am_pos h0 h1 h2 h3
    obtain ⟨k, hk, rfl⟩ := nI_of h4
    have hk' : k < 128 := by
      rcases Nat.lt_or_ge k 128 with z | z
      · exact z
      · exact absurd (show (127 : Int32) < nI k from nI_lt (a := 127) (by omega) hk) h5
    exact am_goodL l1 fl hk'
  · exact am_bad hg
theorem am_cell {post : Int32 → Prop} {L : Nat} {xs : Nat → Int32} {i : Int32} (c : Nat) (hi : i = nI c) (hc : c < 2 ^ 31) (hL : L ≤ 5) (h : ∀ r, post r) : wpL_cellAt post L xs () i :=
  pk_le L c (fun _ => h 0) (fun z => ⟨pk_in c L z hi (by omega), h _⟩) rfl hi (by omega) hc

/-! ===== WHAT IS OWED for AreaMapLaw: one statement: the law answers true on every script of L ints xs ===== -/
theorem i_vc (xs : Nat → Int32) (L : Nat) (hL : L ≤ 5) : wpL_law (fun r => r = 1) L xs :=
  am_cell 0 rfl (by decide) hL (fun r1 => am_cell 1 rfl (by decide) hL (fun r2 => am_cell 2 rfl (by decide) hL (fun r3 => am_cell 3 rfl (by decide) hL (fun r4 => am_cell 4 rfl (by decide) hL (fun r5 => ⟨46, 720, by decide, by decide, am_lawOf r1 r2 r3 r4 r5⟩)))))
end
