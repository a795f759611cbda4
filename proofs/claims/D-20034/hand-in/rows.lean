section
/-! ===== the picture: three nodes q 0, q 1, q 2, of which node i leads to node t i ===== -/
/-- one of three -/
def lr_sel {α : Type} (a b c : α) : Nat → α
  | 0 => a
  | 1 => b
  | _ => c
theorem lr_3 {P : Nat → Prop} (a : P 0) (b : P 1) (c : P 2) : ∀ i, i < 3 → P i := by
  intro i hi
  match i, hi with
  | 0, _ => exact a
  | 1, _ => exact b
  | 2, _ => exact c
/-- where node i is bent to by the script's bits -/
def lr_t (x : Int32) (i : Nat) : Nat := if (((x.toUInt32 >>> ((2 * nI i).toUInt32 &&& Int32.toUInt32 31)).toInt32) &&& 3).toNatClampNeg = 3 then 2 else (((x.toUInt32 >>> ((2 * nI i).toUInt32 &&& Int32.toUInt32 31)).toInt32) &&& 3).toNatClampNeg
theorem lr_t_of {x : Int32} {i j : Nat} (hj : j < 4) (h : ((x.toUInt32 >>> ((2 * nI i).toUInt32 &&& Int32.toUInt32 31)).toInt32) &&& 3 = nI j) : lr_t x i = if j = 3 then 2 else j := by
  unfold lr_t
  rw [h, nI_clamp (by omega)]
theorem lr_t_lt (x : Int32) (i : Nat) : lr_t x i < 3 := by
  obtain ⟨j, hj, e⟩ := pk_andE ((x.toUInt32 >>> ((2 * nI i).toUInt32 &&& Int32.toUInt32 31)).toInt32) (m := 3) 2 (by decide)
  rw [lr_t_of hj e]
  by_cases h : j = 3
  · rw [if_pos h]
    omega
  · rw [if_neg h]
    have : j < 4 := hj
    omega
/-- the nodes of one array, in a pool -/
def lr_P (am : Nat → Option Nat) (LP : List Nat) (n : Nat → Option Nat) (q t : Nat → Nat) : Prop :=
  (∀ i, i < 3 → am i = some (q i) ∧ q i ∈ LP ∧ t i < 3 ∧ n (q i) = some (q (t i))) ∧ (∀ i j, i < 3 → j < 3 → q i = q j → i = j)
theorem lr_keep {am : Nat → Option Nat} {LP LP' : List Nat} {n n' : Nat → Option Nat} {q t : Nat → Nat} (h : lr_P am LP n q t) (hs : ∀ y, y ∈ LP → y ∈ LP') (hn : ∀ y, y ∈ LP → n' y = n y) : lr_P am LP' n' q t :=
  ⟨fun i hi => ⟨(h.1 i hi).1, hs _ (h.1 i hi).2.1, (h.1 i hi).2.2.1, (hn _ (h.1 i hi).2.1).trans (h.1 i hi).2.2.2⟩, h.2⟩
theorem lr_other {am : Nat → Option Nat} {LP : List Nat} {n : Nat → Option Nat} {q t : Nat → Nat} {k : Nat} {w : Option Nat} (h : lr_P am LP n q t) (hk : ∀ i, i < 3 → q i ≠ k) : lr_P am LP (va_up n k w) q t :=
  ⟨fun i hi => ⟨(h.1 i hi).1, (h.1 i hi).2.1, (h.1 i hi).2.2.1, (va_up_ne n w (hk i hi)).trans (h.1 i hi).2.2.2⟩, h.2⟩
theorem lr_put {am : Nat → Option Nat} {LP : List Nat} {n : Nat → Option Nat} {q t : Nat → Nat} {k m : Nat} (h : lr_P am LP n q t) (hk : k < 3) (hm : m < 3) : lr_P am LP (va_up n (q k) (some (q m))) q (va_up t k m) := by
  refine ⟨fun i hi => ?_, h.2⟩
  obtain ⟨h1, h2, h3, h4⟩ := h.1 i hi
  by_cases e : i = k
  · subst e
    rw [va_up_self, va_up_self]
    exact ⟨h1, h2, hm, rfl⟩
  · rw [va_up_ne t m e, va_up_ne n _ (fun z => e (h.2 i k hi hk z))]
    exact ⟨h1, h2, h3, h4⟩
/-- behind the bend, three steps lead to where one led -/
theorem lr_three (t : Nat → Nat) : va_up t (t 0) 0 (va_up t (t 0) 0 (va_up t (t 0) 0 0)) = t 0 := by
  by_cases e : t 0 = 0
  · rw [e, va_up_self, va_up_self, va_up_self]
  · have e' : (0 : Nat) ≠ t 0 := fun z => e z.symm
    rw [va_up_ne t 0 e', va_up_self, va_up_ne t 0 e']
end
section
/-! ===== made: three new nodes, then the loop that bends each ===== -/
theorem lr_45 {post : St2 → Prop} {mc ms kc ks : Nat} {x3 : Int32} {am : Nat → Option Nat} {LP LP0 : List Nat} {v : Nat → Int32} {n0 : Nat → Option Nat} {q : Nat → Nat}
    (ham : ∀ i, i < 3 → am i = some (q i)) (hin : ∀ i, i < 3 → q i ∈ LP) (inj : ∀ i j, i < 3 → j < 3 → q i = q j → i = j) (hf : ∀ i, i < 3 → q i ∉ LP0)
    (H : ∀ n, (∀ j, j < 3 → n (q j) = some (q (lr_t x3 j))) → (∀ y, y ∈ LP0 → n y = n0 y) → post (am, LP, v, n)) :
    ∃ f, wL_made_45 post mc ms x3 kc ks f 0 am LP v n0 := by
  refine pk_loop (fun f i s => wL_made_45 post mc ms x3 kc ks f (nI i) am LP v s) (fun i s => (∀ j, j < i → s (q j) = some (q (lr_t x3 j))) ∧ ∀ y, y ∈ LP0 → s y = n0 y) 3 0 n0 (by omega) ⟨fun j hj => absurd hj (by omega), fun _ _ => rfl⟩ ?_ ?_
  · intro f s h
    exact br_t (by decide) (H s h.1 h.2)
  · intro f i s hi h hw
    have key : ∀ k, k = lr_t x3 i → (∀ j, j < i + 1 → va_up s (q i) (some (q k)) (q j) = some (q (lr_t x3 j))) ∧ ∀ y, y ∈ LP0 → va_up s (q i) (some (q k)) y = n0 y := by
      intro k hk
      refine ⟨fun j hj => ?_, fun y hy => ?_⟩
      · by_cases e : j = i
        · rw [e, va_up_self, hk]
        · rw [va_up_ne s _ (fun z => e (inj j i (by omega) hi z))]
          exact h.1 j (by omega)
      · rw [va_up_ne s _ (fun z : y = q i => hf i hi (z ▸ hy))]
        exact h.2 y hy
    have hc : (nI i).toNatClampNeg = i := nI_clamp (by omega)
    have e2 : (2 : Int32).toNatClampNeg = 2 := by decide
    obtain ⟨j, hj, ej⟩ := pk_andE ((x3.toUInt32 >>> ((2 * nI i).toUInt32 &&& Int32.toUInt32 31)).toInt32) (m := 3) 2 (by decide)
    have ht := lr_t_of hj ej
    have hj4 : j < 4 := hj
    refine br_f (nI_ge (b := 3) hi (by decide)) (nm_r ej ⟨vp_in_nI hi (by decide), op_s (y := q i) ((congrArg am hc).trans (ham i hi)) ?_⟩)
    by_cases e3 : j = 3
    · rw [if_pos e3] at ht
      refine br_t (by rw [e3]; rfl) (op_s (y := q 2) ((congrArg am e2).trans (ham 2 (by omega))) ⟨hin i hi, nm_r (nI_1 i) ?_⟩)
      exact hw _ (key 2 ht.symm)
    · rw [if_neg e3] at ht
      have hj3 : j < 3 := by omega
      refine br_f (fun z => e3 ((nI_eq (a := j) (b := 3) (by omega) (by omega)).mp z)) ⟨vp_in_nI hj3 (by decide), op_s (y := q j) ((congrArg am (nI_clamp (by omega))).trans (ham j hj3)) ⟨hin i hi, nm_r (nI_1 i) ?_⟩⟩
      exact hw _ (key j ht.symm)
theorem lr_made {post : St2 → Prop} {mc ms : Nat} {LP : List Nat} {v : Nat → Int32} {n : Nat → Option Nat} {p0 p1 p2 p3 : Int32} (hm : 4 ≤ mc) (hs : 9 ≤ ms)
    (H : ∀ am LP' v' n' q, (∀ y, y ∈ LP → y ∈ LP') → (∀ y, y ∈ LP → v' y = v y) → (∀ y, y ∈ LP → n' y = n y) → (∀ i, i < 3 → q i ∉ LP) →
      lr_P am LP' n' q (lr_t p3) → (∀ i, i < 3 → v' (q i) = lr_sel p0 p1 p2 i) → post (am, LP', v', n')) :
    wpL_made post mc ms (LP, v, n) p0 p1 p2 p3 := by
  refine ⟨by omega, by omega, by omega, by omega, fun q0 h0 => ⟨l_in_new _ _, l_in_new _ _, nm_e ⟨by omega, by omega, fun q1 h1 => ⟨l_in_new _ _, l_in_new _ _, nm_e ⟨by omega, by omega, fun q2 h2 => ⟨l_in_new _ _, l_in_new _ _, nm_e ?_⟩⟩⟩⟩⟩⟩
  have i0 : (0 : Int32).toNatClampNeg = 0 := by decide
  have i1 : (1 : Int32).toNatClampNeg = 1 := by decide
  have i2 : (2 : Int32).toNatClampNeg = 2 := by decide
  rw [i0, i1, i2]
  have n1 : q1 ∉ LP := fun z => h1 (List.mem_append.mpr (Or.inl z))
  have d10 : q1 ≠ q0 := fun z => h1 (List.mem_append.mpr (Or.inr (List.mem_singleton.mpr z)))
  have n2 : q2 ∉ LP := fun z => h2 (List.mem_append.mpr (Or.inl (List.mem_append.mpr (Or.inl z))))
  have d20 : q2 ≠ q0 := fun z => h2 (List.mem_append.mpr (Or.inl (List.mem_append.mpr (Or.inr (List.mem_singleton.mpr z)))))
  have d21 : q2 ≠ q1 := fun z => h2 (List.mem_append.mpr (Or.inr (List.mem_singleton.mpr z)))
  have hin : ∀ i, i < 3 → lr_sel q0 q1 q2 i ∈ LP ++ [q0] ++ [q1] ++ [q2] :=
    lr_3 (List.mem_append.mpr (Or.inl (List.mem_append.mpr (Or.inl (l_in_new _ _))))) (List.mem_append.mpr (Or.inl (l_in_new _ _))) (l_in_new _ _)
  have ham : ∀ i, i < 3 → va_up (va_up (va_up (fun _ => none) 0 (some q0)) 1 (some q1)) 2 (some q2) i = some (lr_sel q0 q1 q2 i) := lr_3 rfl rfl rfl
  have inj0 : ∀ i, i < 3 → ∀ j, j < 3 → lr_sel q0 q1 q2 i = lr_sel q0 q1 q2 j → i = j :=
    lr_3 (lr_3 (fun _ => rfl) (fun z => absurd z.symm d10) (fun z => absurd z.symm d20))
      (lr_3 (fun z => absurd z d10) (fun _ => rfl) (fun z => absurd z.symm d21))
      (lr_3 (fun z => absurd z d20) (fun z => absurd z d21) (fun _ => rfl))
  have inj : ∀ i j, i < 3 → j < 3 → lr_sel q0 q1 q2 i = lr_sel q0 q1 q2 j → i = j := fun i j hi hj => inj0 i hi j hj
  have hf : ∀ i, i < 3 → lr_sel q0 q1 q2 i ∉ LP := lr_3 h0 n1 n2
  have up : ∀ {α : Type} (f : Nat → α) (a a' b b' c c' : α) (y : Nat), y ≠ q0 → y ≠ q1 → y ≠ q2 → va_up (va_up (va_up (va_up (va_up (va_up f q0 a) q0 a') q1 b) q1 b') q2 c) q2 c' y = f y := by
    intro α f a a' b b' c c' y y0 y1 y2
    rw [va_up_ne _ _ y2, va_up_ne _ _ y2, va_up_ne _ _ y1, va_up_ne _ _ y1, va_up_ne _ _ y0, va_up_ne _ _ y0]
  have ne : ∀ y, y ∈ LP → y ≠ q0 ∧ y ≠ q1 ∧ y ≠ q2 := fun y hy => ⟨fun z => h0 (z ▸ hy), fun z => n1 (z ▸ hy), fun z => n2 (z ▸ hy)⟩
  refine lr_45 (q := lr_sel q0 q1 q2) (LP0 := LP) ham hin inj hf (fun n' hn' ho => ?_)
  refine H _ _ _ n' (lr_sel q0 q1 q2) (fun y hy => List.mem_append.mpr (Or.inl (List.mem_append.mpr (Or.inl (List.mem_append.mpr (Or.inl hy)))))) (fun y hy => ?_) (fun y hy => ?_) hf ⟨fun i hi => ⟨ham i hi, hin i hi, lr_t_lt _ _, hn' i hi⟩, inj⟩ ?_
  · exact up v _ _ _ _ _ _ y (ne y hy).1 (ne y hy).2.1 (ne y hy).2.2
  · rw [ho y hy]
    exact up n _ _ _ _ _ _ y (ne y hy).1 (ne y hy).2.1 (ne y hy).2.2
  · refine lr_3 ?_ ?_ ?_
    · show va_up (va_up (va_up (va_up (va_up (va_up v q0 0) q0 p0) q1 0) q1 p1) q2 0) q2 p2 q0 = p0
      rw [va_up_ne _ _ d20.symm, va_up_ne _ _ d20.symm, va_up_ne _ _ d10.symm, va_up_ne _ _ d10.symm, va_up_self]
    · show va_up (va_up (va_up (va_up (va_up (va_up v q0 0) q0 p0) q1 0) q1 p1) q2 0) q2 p2 q1 = p1
      rw [va_up_ne _ _ d21.symm, va_up_ne _ _ d21.symm, va_up_self]
    · show va_up (va_up (va_up (va_up (va_up (va_up v q0 0) q0 p0) q1 0) q1 p1) q2 0) q2 p2 q2 = p2
      rw [va_up_self]
end
section
/-! ===== bendBack, of the class and of its twin ===== -/
theorem lr_next {post : Option Nat → Prop} {LP : List Nat} {v : Nat → Int32} {n : Nat → Option Nat} {o y : Nat} (ho : o ∈ LP) (hn : n o = some y) (h : post (some y)) : wpX4_next post (LP, v, n) o :=
  ⟨ho, op_s (B := fun z => post (some z)) hn h⟩
theorem lr_get {post : Int32 → Prop} {LP : List Nat} {v : Nat → Int32} {n : Nat → Option Nat} {o : Nat} (ho : o ∈ LP) (h : post (v o)) : wpX4_get post (LP, v, n) o := ⟨ho, h⟩
theorem lr_bendX {post : Int32 → St1 → Prop} {am : Nat → Option Nat} {LP : List Nat} {v : Nat → Int32} {n : Nat → Option Nat} {q t : Nat → Nat} {d : Nat → Int32} (h : lr_P am LP n q t) (hv : ∀ i, i < 3 → v (q i) = d i)
    (H : post (d (t (t 0)) * 100 + d (t 0)) (LP, v, va_up n (q (t 0)) (some (q 0)))) : wpX5_bendBack post (LP, v, n) (q 0) := by
  obtain ⟨_, m0, b0, n0⟩ := h.1 0 (by omega)
  obtain ⟨_, m1, b1, n1⟩ := h.1 (t 0) b0
  obtain ⟨_, m2, b2, n2⟩ := h.1 (t (t 0)) b1
  have h' := lr_put h b0 (show 0 < 3 by omega)
  obtain ⟨_, _, c0, k0⟩ := h'.1 0 (by omega)
  obtain ⟨_, l1, c1, k1⟩ := h'.1 _ c0
  obtain ⟨_, l2, c2, k2⟩ := h'.1 _ c1
  obtain ⟨_, l3, _, _⟩ := h'.1 _ c2
  have e3 := lr_three t
  rw [← hv _ b1, ← hv _ b0] at H
  rw [e3] at k2 l3
  exact ⟨m0, lr_next m0 n0 (op_s rfl ⟨m1, lr_next m1 n1 (op_s rfl ⟨m2, lr_get m2 (op_s n0 ⟨m1, lr_next m0 k0 (op_s rfl ⟨l1, lr_next l1 k1 (op_s rfl ⟨l2, lr_next l2 k2 (op_s rfl ⟨l3, lr_get l3 H⟩)⟩)⟩)⟩)⟩)⟩)⟩
theorem lr_bendY {post : Int32 → St1 → Prop} {am : Nat → Option Nat} {LP : List Nat} {v : Nat → Int32} {n : Nat → Option Nat} {q t : Nat → Nat} {d : Nat → Int32} (h : lr_P am LP n q t) (hv : ∀ i, i < 3 → v (q i) = d i)
    (H : post (d (t (t 0)) * 100 + d (t 0)) (LP, v, va_up n (q (t 0)) (some (q 0)))) : wpX6_bendBack post (LP, v, n) (q 0) := by
  obtain ⟨_, m0, b0, n0⟩ := h.1 0 (by omega)
  obtain ⟨_, m1, b1, n1⟩ := h.1 (t 0) b0
  obtain ⟨_, m2, b2, n2⟩ := h.1 (t (t 0)) b1
  rw [← hv _ b1, ← hv _ b0] at H
  exact ⟨m0, op_s n0 ⟨m1, op_s n1 ⟨m2, nm_e (nm_e H)⟩⟩⟩
end
section
/-! ===== the law's three loops ===== -/
section LOOPS
variable {post : Int32 → St1 → Prop} {mc ms kc ks : Nat} {am am' : Nat → Option Nat} {LP : List Nat} {v : Nat → Int32} {n : Nat → Option Nat} {q q' t : Nat → Nat}
theorem lr_111 (h : lr_P am LP n q t) (h' : lr_P am' LP n q' t) (hv : ∀ i, i < 3 → v (q i) = v (q' i)) (H : post 1 (LP, v, n)) : ∃ f, wL_lawOf_111 post mc ms kc ks am am' LP v n f 0 :=
  pk_loop (σ := Unit) (fun f i _ => wL_lawOf_111 post mc ms kc ks am am' LP v n f (nI i)) (fun _ _ => True) 3 0 () (by omega) trivial
    (fun f _ _ => br_t (by decide) H)
    (fun f i _ hi _ hw => by
      obtain ⟨a1, a2, a3, a4⟩ := h.1 i hi
      obtain ⟨b1, b2, b3, b4⟩ := h'.1 i hi
      have hc : (nI i).toNatClampNeg = i := nI_clamp (by omega)
      exact br_f (nI_ge (b := 3) hi (by decide)) ⟨vp_in_nI hi (by decide), op_s ((congrArg am hc).trans a1) ⟨a2, op_s a4 ⟨(h.1 _ a3).2.1, vp_in_nI hi (by decide), op_s ((congrArg am' hc).trans b1) ⟨b2, op_s b4 ⟨(h'.1 _ b3).2.1, br_t (hv _ a3) (nm_r (nI_1 i) (hw () trivial))⟩⟩⟩⟩⟩)
theorem lr_76 (h : lr_P am LP n q t) (h' : lr_P am' LP n q' t) (hd : ∀ i j, i < 3 → j < 3 → q i ≠ q' j) (hv : ∀ i, i < 3 → v (q i) = v (q' i)) (H : ∀ w, post 1 (LP, w, n)) : ∃ f, wL_lawOf_76 post mc ms kc ks am am' LP n f 0 v :=
  pk_loop (fun f i s => wL_lawOf_76 post mc ms kc ks am am' LP n f (nI i) s) (fun _ s => ∀ i, i < 3 → s (q i) = s (q' i)) 3 0 v (by omega) hv
    (fun f s hs => br_t (by decide) (lr_111 h h' hs (H s)))
    (fun f i s hi hs hw => by
      obtain ⟨a1, a2, a3, a4⟩ := h.1 i hi
      obtain ⟨b1, b2, b3, b4⟩ := h'.1 i hi
      have hc : (nI i).toNatClampNeg = i := nI_clamp (by omega)
      refine br_f (nI_ge (b := 3) hi (by decide)) ⟨vp_in_nI hi (by decide), op_s ((congrArg am hc).trans a1) ⟨a2, vp_in_nI hi (by decide), op_s ((congrArg am' hc).trans b1) ⟨b2, nm_r (nI_1 i) (hw _ (fun j hj => ?_))⟩⟩⟩
      rw [va_up_ne _ _ (hd j i hj hi)]
      by_cases e : j = i
      · rw [e, va_up_self, va_up_self]
      · rw [va_up_ne _ _ (fun z => e (h.2 j i hj hi z)), va_up_ne _ _ (fun z => e (h'.2 j i hj hi z)), va_up_ne _ _ (fun z => hd i j hi hj z.symm)]
        exact hs j hj)
theorem lr_40 (h : lr_P am LP n q t) (h' : lr_P am' LP n q' t) (hd : ∀ i j, i < 3 → j < 3 → q i ≠ q' j) (hv : ∀ i, i < 3 → v (q i) = v (q' i)) (H : ∀ w, post 1 (LP, w, n)) : ∃ f, wL_lawOf_40 post mc ms kc ks am am' LP v n f 0 :=
  pk_loop (σ := Unit) (fun f i _ => wL_lawOf_40 post mc ms kc ks am am' LP v n f (nI i)) (fun _ _ => True) 3 0 () (by omega) trivial
    (fun f _ _ => br_t (by decide) (lr_76 h h' hd hv H))
    (fun f i _ hi _ hw => by
      obtain ⟨a1, a2, a3, a4⟩ := h.1 i hi
      obtain ⟨b1, b2, b3, b4⟩ := h'.1 i hi
      have hc : (nI i).toNatClampNeg = i := nI_clamp (by omega)
      exact br_f (nI_ge (b := 3) hi (by decide)) ⟨vp_in_nI hi (by decide), op_s ((congrArg am hc).trans a1) ⟨a2, vp_in_nI hi (by decide), op_s ((congrArg am' hc).trans b1) ⟨b2, br_t (hv i hi) (nm_r (nI_1 i) (hw () trivial))⟩⟩⟩)
end LOOPS
end
section
/-! ===== the law ===== -/
theorem lr_lawOf {post : Int32 → St1 → Prop} {mc ms : Nat} {LP : List Nat} {v : Nat → Int32} {n : Nat → Option Nat} {p0 p1 p2 p3 : Int32} (hm : 8 ≤ mc) (hs : 18 ≤ ms) (H : ∀ u, post 1 u) : wpL_lawOf post mc ms (LP, v, n) p0 p1 p2 p3 := by
  refine ⟨4, 9, by omega, by omega, lr_made (by omega) (by omega) ?_⟩
  intro am LP1 v1 n1 q _ _ _ _ hP hV
  refine ⟨4, 9, by omega, by omega, lr_made (by omega) (by omega) ?_⟩
  intro am' LP2 v2 n2 q' s2 sv sn fr hP' hV'
  have i0 : (0 : Int32).toNatClampNeg = 0 := by decide
  have hQ : lr_P am LP2 n2 q (lr_t p3) := lr_keep hP s2 sn
  have hW : ∀ i, i < 3 → v2 (q i) = lr_sel p0 p1 p2 i := fun i hi => (sv _ (hP.1 i hi).2.1).trans (hV i hi)
  have hd : ∀ i j, i < 3 → j < 3 → q i ≠ q' j := fun i j hi hj z => fr j hj (z ▸ (hP.1 i hi).2.1)
  have b0 := lr_t_lt p3 0
  have g1 := lr_put hQ b0 (show 0 < 3 by omega)
  have g2 : lr_P am' LP2 (va_up n2 (q (lr_t p3 0)) (some (q 0))) q' (lr_t p3) := lr_other hP' (fun i hi z => hd _ i b0 hi z.symm)
  have k1 := lr_other (k := q' (lr_t p3 0)) (w := some (q' 0)) g1 (fun i hi => hd i _ hi b0)
  have k2 := lr_put g2 b0 (show 0 < 3 by omega)
  refine op_s ((congrArg am i0).trans (hP.1 0 (by omega)).1) (lr_bendX hQ hW ?_)
  refine op_s ((congrArg am' i0).trans (hP'.1 0 (by omega)).1) (lr_bendY g2 hV' ?_)
  exact br_t rfl (lr_40 k1 k2 hd (fun i hi => (hW i hi).trans (hV' i hi).symm) (fun w => H _))
theorem lr_cell {post : Int32 → Prop} {L : Nat} {xs : Nat → Int32} {x : Int32} (k : Nat) (hx : x = nI k) (hk : k < 4) (hL : L ≤ 4) (H : ∀ r, post r) : wpL_cellAt post L xs () x :=
  pk_le L k (fun _ => H _) (fun h => ⟨pk_in k L h hx, H _⟩) rfl hx
theorem i_vc (xs : Nat → Int32) (L : Nat) (hL : L ≤ 4) : wpL_law (fun r => r = 1) L xs :=
  lr_cell 0 rfl (by omega) hL (fun _ => lr_cell 1 rfl (by omega) hL (fun _ => lr_cell 2 rfl (by omega) hL (fun _ => lr_cell 3 rfl (by omega) hL (fun _ =>
    ⟨8, 18, by omega, by omega, lr_lawOf (by omega) (by omega) (fun _ => rfl)⟩))))
end
