section
/-- the place i of an array of n ints; 0 past its end -/
def vo_c (a : Nat → Int32) (n i : Nat) : Int32 := if i < n then a i else 0
/-- what Integer.compare answers -/
def vo_k (x y : Int32) : Int32 := if y ≤ x then (if x = y then 0 else 1) else -1
/-- the order of the k places from i on: the first two places that differ decide -/
def vo_d (f g : Nat → Int32) : Nat → Nat → Int32
  | 0, _ => 0
  | k + 1, i => if f i = g i then vo_d f g k (i + 1) else vo_k (f i) (g i)
theorem vo_lt {a : Nat → Int32} {n i : Nat} (h : i < n) : vo_c a n i = a i := if_pos h
theorem vo_ge {a : Nat → Int32} {n i : Nat} (h : n ≤ i) : vo_c a n i = 0 := if_neg (Nat.not_lt.mpr h)
theorem vo_dS (f g : Nat → Int32) (k i : Nat) : vo_d f g (k + 1) i = if f i = g i then vo_d f g k (i + 1) else vo_k (f i) (g i) := rfl
theorem vo_dT {f g : Nat → Int32} {k i : Nat} (h : f i = g i) : vo_d f g (k + 1) i = vo_d f g k (i + 1) := by
  rw [vo_dS, if_pos h]
theorem vo_dF {f g : Nat → Int32} {k i : Nat} (h : f i ≠ g i) : vo_d f g (k + 1) i = vo_k (f i) (g i) := by
  rw [vo_dS, if_neg h]
theorem vo_kN {x y : Int32} (h : ¬ y ≤ x) : vo_k x y = -1 := if_neg h
theorem vo_kP {x y : Int32} (h : y ≤ x) (e : x ≠ y) : vo_k x y = 1 := by
  unfold vo_k
  rw [if_pos h, if_neg e]
theorem vo_max {n0 n1 : Nat} (h0 : n0 ≤ 7) (h1 : n1 ≤ 7) : (if (Int32.ofNat n0) < (Int32.ofNat n1) then (Int32.ofNat n1) else (Int32.ofNat n0)) = nI (max n0 n1) := by
  have h : (Int32.ofNat n0 < Int32.ofNat n1) ↔ n0 < n1 := nI_ltI (by omega) (by omega)
  by_cases c : n0 < n1
  · rw [if_pos (h.mpr c), Nat.max_eq_right (by omega)]
    rfl
  · rw [if_neg (fun z => c (h.mp z)), Nat.max_eq_left (by omega)]
    rfl
/-! the class's own loop: up, out at the first place that differs -/
theorem vo_40 {post : Int32 → Prop} {J2 : Int32 → Prop} {i : Nat} {x y : Int32} {a0 a1 : Nat → Int32} {n0 n1 : Nat} (H1 : x = y → J2 (nI (i + 1))) (H2 : x ≠ y → post (vo_k x y)) : wX0_versionOrder_40 post J2 (nI i) x y a0 n0 a1 n1 := by
  unfold wX0_versionOrder_40
  refine br_c (fun h => nm_r (nI_1 i) (H1 h)) (fun h => ?_)
  have H := H2 h
  unfold wpJ6_compare_7cf53_48e5c
  refine br_c (fun c => br_f h ?_) (fun c => ?_)
  · rw [vo_kP c h] at H
    exact H
  · rw [vo_kN c] at H
    exact H
theorem vo_26 {post : Int32 → Prop} {J2 : Int32 → Prop} {i : Nat} {x : Int32} {a0 a1 : Nat → Int32} {n0 n1 : Nat} (hi : i < 7) (h1 : n1 ≤ 7) (H1 : x = vo_c a1 n1 i → J2 (nI (i + 1))) (H2 : x ≠ vo_c a1 n1 i → post (vo_k x (vo_c a1 n1 i))) : wX0_versionOrder_26 post J2 (nI i) x a0 n0 a1 n1 := by
  unfold wX0_versionOrder_26
  refine pk_le n1 i (fun z => ?_) (fun z => ⟨pk_in i n1 z, ?_⟩)
  · rw [vo_ge z] at H1 H2
    exact vo_40 H1 H2
  · rw [vo_lt z] at H1 H2
    rw [nI_clamp (by omega)]
    exact vo_40 H1 H2
theorem vo_X0 {post : Int32 → Prop} {a0 a1 : Nat → Int32} {n0 n1 : Nat} (h0 : n0 ≤ 7) (h1 : n1 ≤ 7) (H : post (vo_d (vo_c a0 n0) (vo_c a1 n1) (max n0 n1) 0)) : wpX0_versionOrder post (a0, n0, a1, n1) := by
  unfold wpX0_versionOrder
  dsimp only
  refine pk_loop (σ := Unit) (fun n i _ => wX0_versionOrder_2 post a0 n0 a1 n1 n (nI i)) (fun i _ => post (vo_d (vo_c a0 n0) (vo_c a1 n1) (max n0 n1 - i) i)) (max n0 n1) 0 () (by omega) H ?_ ?_
  · intro n u h
    have h' : post (vo_d (vo_c a0 n0) (vo_c a1 n1) (max n0 n1 - max n0 n1) (max n0 n1)) := h
    rw [Nat.sub_self] at h'
    exact pk_le (max n0 n1) (max n0 n1) (fun _ => h') (fun z => absurd z (by omega)) (vo_max h0 h1)
  · intro n i u hi h hw
    have h' : post (vo_d (vo_c a0 n0) (vo_c a1 n1) (max n0 n1 - i) i) := h
    have hw' : post (vo_d (vo_c a0 n0) (vo_c a1 n1) (max n0 n1 - (i + 1)) (i + 1)) → wX0_versionOrder_2 post a0 n0 a1 n1 n (nI (i + 1)) := hw ()
    rw [show max n0 n1 - i = (max n0 n1 - (i + 1)) + 1 by omega] at h'
    have H1 : vo_c a0 n0 i = vo_c a1 n1 i → wX0_versionOrder_2 post a0 n0 a1 n1 n (nI (i + 1)) := fun e => hw' (by rw [vo_dT e] at h'; exact h')
    have H2 : vo_c a0 n0 i ≠ vo_c a1 n1 i → post (vo_k (vo_c a0 n0 i) (vo_c a1 n1 i)) := fun e => by rw [vo_dF e] at h'; exact h'
    refine pk_le (max n0 n1) i (fun z => absurd z (by omega)) (fun _ => ?_) (vo_max h0 h1)
    refine pk_le n0 i (fun z => ?_) (fun z => ⟨pk_in i n0 z, ?_⟩)
    · rw [vo_ge z] at H1 H2
      exact vo_26 (by omega) h1 H1 H2
    · rw [vo_lt z] at H1 H2
      rw [nI_clamp (by omega)]
      exact vo_26 (by omega) h1 H1 H2
/-! the twin's loop: down, the lowest place that differs has the last word -/
theorem vo_59 {post : Int32 → Prop} {J22 : Int32 → Int32 → Prop} {i : Nat} {s x y : Int32} {a0 a1 : Nat → Int32} {n0 n1 : Nat} (H1 : x = y → J22 s (nI i - 1)) (H2 : x ≠ y → J22 (vo_k x y) (nI i - 1)) : wX1_versionOrder_59 post J22 s (nI i) x y a0 n0 a1 n1 := by
  have e1 : nI i + (-1) = nI i - 1 := (Int32.sub_eq_add_neg (nI i) 1).symm
  unfold wX1_versionOrder_59 wX1_versionOrder_70
  refine br_c (fun c => br_c (fun d => nm_r e1 (H1 (Int32.le_antisymm d c))) (fun d => nm_r e1 ?_)) (fun c => br_c (fun d => nm_r e1 ?_) (fun d => ?_))
  · have e : x ≠ y := fun z => d (by rw [z]; exact Int32.le_refl y)
    have H := H2 e
    rw [vo_kP c e] at H
    exact H
  · have e : x ≠ y := fun z => c (by rw [z]; exact Int32.le_refl y)
    have H := H2 e
    rw [vo_kN c] at H
    exact H
  · exact absurd (Int32.le_total x y) (fun z => z.elim d c)
theorem vo_42 {post : Int32 → Prop} {J22 : Int32 → Int32 → Prop} {i : Nat} {s x : Int32} {a0 a1 : Nat → Int32} {n0 n1 : Nat} (hi : i < 7) (h1 : n1 ≤ 7) (H1 : x = vo_c a1 n1 i → J22 s (nI i - 1)) (H2 : x ≠ vo_c a1 n1 i → J22 (vo_k x (vo_c a1 n1 i)) (nI i - 1)) : wX1_versionOrder_42 post J22 s (nI i) x a0 n0 a1 n1 := by
  unfold wX1_versionOrder_42
  refine pk_le n1 i (fun z => ?_) (fun z => ⟨pk_in i n1 z, ?_⟩)
  · rw [vo_ge z] at H1 H2
    exact vo_59 H1 H2
  · rw [vo_lt z] at H1 H2
    rw [nI_clamp (by omega)]
    exact vo_59 H1 H2
theorem vo_22 {post : Int32 → Prop} {a0 a1 : Nat → Int32} {n0 n1 e : Nat} (h0 : n0 ≤ 7) (h1 : n1 ≤ 7) (he : e ≤ 7) (H : post (vo_d (vo_c a0 n0) (vo_c a1 n1) e 0)) : ∃ n, wX1_versionOrder_22 post a0 n0 a1 n1 n 0 (nI e - 1) := by
  refine ⟨e + 1, pk_loopD (fun n i s => wX1_versionOrder_22 post a0 n0 a1 n1 n s (nI i - 1)) (fun i s => i ≤ e ∧ s = vo_d (vo_c a0 n0) (vo_c a1 n1) (e - i) i) ?_ ?_ e 0 ⟨Nat.le_refl e, by rw [Nat.sub_self]; rfl⟩⟩
  · intro n s h
    have hs : s = vo_d (vo_c a0 n0) (vo_c a1 n1) e 0 := h.2
    rw [← hs] at H
    exact br_t (show nI 0 - 1 < 0 by decide) H
  · intro n i s h hw
    have hi : i + 1 ≤ e := h.1
    have hs : s = vo_d (vo_c a0 n0) (vo_c a1 n1) (e - (i + 1)) (i + 1) := h.2
    have hw' : ∀ s', s' = vo_d (vo_c a0 n0) (vo_c a1 n1) (e - i) i → wX1_versionOrder_22 post a0 n0 a1 n1 n s' (nI i - 1) := fun s' q => hw s' ⟨by omega, q⟩
    rw [show e - i = (e - (i + 1)) + 1 by omega] at hw'
    have H1 : vo_c a0 n0 i = vo_c a1 n1 i → wX1_versionOrder_22 post a0 n0 a1 n1 n s (nI i - 1) := fun q => hw' s (by rw [vo_dT q]; exact hs)
    have H2 : vo_c a0 n0 i ≠ vo_c a1 n1 i → wX1_versionOrder_22 post a0 n0 a1 n1 n (vo_k (vo_c a0 n0 i) (vo_c a1 n1 i)) (nI i - 1) := fun q => hw' _ (by rw [vo_dF q])
    show wX1_versionOrder_22 post a0 n0 a1 n1 (n + 1) s (nI (i + 1) - 1)
    rw [nI_pred]
    refine br_f (nI_pos (by omega)) ?_
    refine pk_le n0 i (fun z => ?_) (fun z => ⟨pk_in i n0 z, ?_⟩)
    · rw [vo_ge z] at H1 H2
      exact vo_42 (by omega) h1 H1 H2
    · rw [vo_lt z] at H1 H2
      rw [nI_clamp (by omega)]
      exact vo_42 (by omega) h1 H1 H2
theorem vo_X1 {post : Int32 → Prop} {a0 a1 : Nat → Int32} {n0 n1 : Nat} (h0 : n0 ≤ 7) (h1 : n1 ≤ 7) (H : post (vo_d (vo_c a0 n0) (vo_c a1 n1) (max n0 n1) 0)) : wpX1_versionOrder post (a0, n0, a1, n1) := by
  unfold wpX1_versionOrder
  dsimp only
  refine pk_le n0 n1 (fun z => nm_e (nm_e ?_)) (fun z => nm_e (nm_e ?_))
  · rw [Nat.max_eq_right z] at H
    exact vo_22 h0 h1 h1 H
  · rw [Nat.max_eq_left (by omega)] at H
    exact vo_22 h0 h1 h0 H
end
section
/-! the law: two arrays of at most seven ints, whatever they hold -/
theorem vo_parts {post : St1 → Prop} {mc ms : Nat} {u : St0} {p0 p1 p2 : Int32} (hc : 1 ≤ mc) (hs : 7 ≤ ms) (H : ∀ (a : Nat → Int32) (n : Nat), n ≤ 7 → post (a, n)) : wpL_parts post mc ms u p0 p1 p2 := by
  obtain ⟨j, hj, e⟩ := pk_andE p1 (m := 7) 3 (by decide)
  have hj7 : j ≤ 7 := by omega
  unfold wpL_parts
  rw [e]
  refine ⟨nI_pos (by omega), nm_r (nI_clamp (by omega)) ⟨by omega, hc, by omega, ?_⟩⟩
  exact pk_loop (fun n i s => wL_parts_10 post mc ms p0 p2 1 (0 + j) j n (nI i) s) (fun _ _ => True) j 0 _ (by omega) trivial
    (fun n s _ => pk_le j j (fun _ => H s j hj7) (fun z => absurd z (by omega)))
    (fun n i s hi _ hw => pk_le j i (fun z => absurd z (by omega)) (fun _ => pk_eq i 1 (fun _ => ⟨pk_in i j hi, nm_e (nm_r (nI_1 i) (hw _ trivial))⟩) (fun _ => ⟨pk_in i j hi, nm_e (nm_r (nI_1 i) (hw _ trivial))⟩)))
theorem vo_50 {post : Int32 → St0 → Prop} {mc ms : Nat} {z0 z1 z2 : Int32} {kc ks : Nat} {a : Nat → Int32} {n : Nat} (hc : kc + 1 ≤ mc) (hs : ks + 7 ≤ ms) (hn : n ≤ 7) (H : post 1 ()) : wL_lawOf_50 post mc ms z0 z1 z2 kc ks a n := by
  unfold wL_lawOf_50
  exact ⟨1, 7, hc, hs, vo_parts (by omega) (by omega) (fun b m hm => vo_X0 hn hm (vo_X1 hn hm (br_t rfl H)))⟩
theorem vo_35 {post : Int32 → St0 → Prop} {mc ms : Nat} {x1 x2 x3 z0 : Int32} {kc ks : Nat} {a : Nat → Int32} {n : Nat} (hc : kc + 1 ≤ mc) (hs : ks + 7 ≤ ms) (hn : n ≤ 7) (H : post 1 ()) : wL_lawOf_35 post mc ms x1 x2 x3 z0 kc ks a n := by
  unfold wL_lawOf_35
  exact br_c (fun _ => vo_50 hc hs hn H) (fun _ => vo_50 hc hs hn H)
theorem vo_lawOf {post : Int32 → St0 → Prop} {u : St0} {p0 p1 p2 p3 : Int32} (H : post 1 ()) : wpL_lawOf post 2 14 u p0 p1 p2 p3 := by
  unfold wpL_lawOf
  exact ⟨1, 7, by omega, by omega, vo_parts (by omega) (by omega) (fun a n hn => br_c (fun _ => vo_35 (by omega) (by omega) hn H) (fun _ => br_c (fun _ => vo_35 (by omega) (by omega) hn H) (fun _ => vo_35 (by omega) (by omega) hn H)))⟩
theorem vo_cell {post : Int32 → Prop} {L : Nat} {xs : Nat → Int32} {u : St0} {x : Int32} (hL : L ≤ 4) (i : Nat) (hi : i ≤ 3) (hx : x = nI i) (H : ∀ v, post v) : wpL_cellAt post L xs u x := by
  unfold wpL_cellAt
  exact pk_le L i (fun _ => H _) (fun z => ⟨pk_in i L z hx, H _⟩) rfl hx
theorem i_vc (xs : Nat → Int32) (L : Nat) (hL : L ≤ 4) : wpL_law (fun r => r = 1) L xs := by
  unfold wpL_law
  exact vo_cell hL 0 (by omega) rfl (fun a => vo_cell hL 1 (by omega) rfl (fun b => vo_cell hL 2 (by omega) rfl (fun c => vo_cell hL 3 (by omega) rfl (fun d => ⟨2, 14, by omega, by omega, vo_lawOf rfl⟩))))
end
