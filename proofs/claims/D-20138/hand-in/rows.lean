section
/-! ===== the picture: three nodes, their places mapped to addresses by ax, the next place by t ===== -/
/-- the place reached by n steps from place 0 -/
def lr_pos (t : Nat → Nat) : Nat → Nat
  | 0 => 0
  | n + 1 => t (lr_pos t n)
/-- the values by place when n steps have added -/
def lr_val (t : Nat → Nat) (v : Nat → Int32) : Nat → Nat → Int32
  | 0 => v
  | n + 1 => va_up (lr_val t v n) (lr_pos t n) (lr_val t v n (lr_pos t n) + nI n)
/-- the answer of a walk of k steps -/
def lr_ans (t : Nat → Nat) (v : Nat → Int32) (k : Nat) : Int32 := if lr_pos t k = 0 then -1 else lr_val t v k (lr_pos t k)
/-- three things by place -/
def lr_3 {α : Type} (a b c : α) (i : Nat) : α := if i = 0 then a else if i = 1 then b else c
def lr_inj (ax : Nat → Nat) : Prop := ∀ i j, i < 3 → j < 3 → ax i = ax j → i = j
def lr_in (LP : List Nat) (ax : Nat → Nat) : Prop := ∀ i, i < 3 → ax i ∈ LP
def lr_arr (am : Nat → Option Nat) (ax : Nat → Nat) : Prop := ∀ i, i < 3 → am i = some (ax i)
def lr_nx (pn : Nat → Option Nat) (ax t : Nat → Nat) (n : Nat) : Prop := ∀ i, i < n → pn (ax i) = some (ax (t i))
def lr_t3 (t : Nat → Nat) : Prop := ∀ i, i < 3 → t i < 3
def lr_has (pv : Nat → Int32) (ax : Nat → Nat) (v : Nat → Int32) : Prop := ∀ i, i < 3 → pv (ax i) = v i
def lr_off {α : Type} (p p' : Nat → α) (ax : Nat → Nat) : Prop := ∀ q, (∀ i, i < 3 → q ≠ ax i) → p' q = p q
theorem lr_pos_lt {t : Nat → Nat} (h : lr_t3 t) (n : Nat) : lr_pos t n < 3 := by
  induction n with
  | zero => exact Nat.zero_lt_succ 2
  | succ n ih => exact h _ ih
theorem lr_has_up {pv : Nat → Int32} {ax : Nat → Nat} {v : Nat → Int32} {i : Nat} {x : Int32} (hj : lr_inj ax) (hi : i < 3) (h : lr_has pv ax v) : lr_has (va_up pv (ax i) x) ax (va_up v i x) := by
  intro j hj3
  by_cases e : j = i
  · rw [e, va_up_self, va_up_self]
  · rw [va_up_ne _ _ e, va_up_ne _ _ (fun z : ax j = ax i => e (hj j i hj3 hi z))]
    exact h j hj3
theorem lr_off_up {α : Type} {p p' : Nat → α} {ax : Nat → Nat} {i : Nat} {x : α} (hi : i < 3) (h : lr_off p p' ax) : lr_off p (va_up p' (ax i) x) ax := by
  intro q hq
  rw [va_up_ne _ _ (hq i hi)]
  exact h q hq
theorem lr_off_0 {α : Type} (p : Nat → α) (ax : Nat → Nat) : lr_off p p ax := fun _ _ => rfl
theorem lr_nx_up {pn : Nat → Option Nat} {ax t : Nat → Nat} {i y : Nat} (hj : lr_inj ax) (hi : i < 3) (h : lr_nx pn ax t i) (hy : y = ax (t i)) : lr_nx (va_up pn (ax i) (some y)) ax t (i + 1) := by
  intro j hj3
  by_cases e : j = i
  · rw [e, va_up_self, hy]
  · rw [va_up_ne _ _ (fun z : ax j = ax i => e (hj j i (by omega) hi z))]
    exact h j (by omega)
theorem lr_up3 {α : Type} (f : Nat → α) {q0 q1 q2 : Nat} (x0 x1 x2 a b c : α) (n10 : q1 ≠ q0) (n20 : q2 ≠ q0) (n21 : q2 ≠ q1) {i : Nat} (hi : i < 3) :
    va_up (va_up (va_up (va_up (va_up (va_up f q0 x0) q0 a) q1 x1) q1 b) q2 x2) q2 c (lr_3 q0 q1 q2 i) = lr_3 a b c i := by
  refine co_3 (P := fun i => va_up (va_up (va_up (va_up (va_up (va_up f q0 x0) q0 a) q1 x1) q1 b) q2 x2) q2 c (lr_3 q0 q1 q2 i) = lr_3 a b c i) ?_ ?_ ?_ hi
  · show va_up (va_up (va_up (va_up (va_up (va_up f q0 x0) q0 a) q1 x1) q1 b) q2 x2) q2 c q0 = a
    rw [bx_uu, bx_uu, bx_uu, va_up_ne _ _ (Ne.symm n20), va_up_ne _ _ (Ne.symm n10), va_up_self]
  · show va_up (va_up (va_up (va_up (va_up (va_up f q0 x0) q0 a) q1 x1) q1 b) q2 x2) q2 c q1 = b
    rw [bx_uu, bx_uu, bx_uu, va_up_ne _ _ (Ne.symm n21), va_up_self]
  · show va_up (va_up (va_up (va_up (va_up (va_up f q0 x0) q0 a) q1 x1) q1 b) q2 x2) q2 c q2 = c
    rw [va_up_self]
theorem lr_up3n {α : Type} (f : Nat → α) {q0 q1 q2 q : Nat} (x0 x1 x2 a b c : α) (n0 : q ≠ q0) (n1 : q ≠ q1) (n2 : q ≠ q2) :
    va_up (va_up (va_up (va_up (va_up (va_up f q0 x0) q0 a) q1 x1) q1 b) q2 x2) q2 c q = f q := by
  rw [va_up_ne _ _ n2, va_up_ne _ _ n2, va_up_ne _ _ n1, va_up_ne _ _ n1, va_up_ne _ _ n0, va_up_ne _ _ n0]
/-! ===== the two walks ===== -/
section WALKS
variable {LP : List Nat} {pn : Nat → Option Nat} {ax t : Nat → Nat} {v : Nat → Int32} {pv0 : Nat → Int32} {k : Nat}
theorem lr_x5 {post : Int32 → St1 → Prop} (hn : lr_in LP ax) (hx : lr_nx pn ax t 3) (ht : lr_t3 t) (hj : lr_inj ax) (hk : k < 2 ^ 31)
    (H : ∀ pv, lr_has pv ax (lr_val t v k) → lr_off pv0 pv ax → post (lr_ans t v k) (LP, pv, pn)) :
    ∀ f i pv, i ≤ k → k - i < f → lr_has pv ax (lr_val t v i) → lr_off pv0 pv ax → wX5_walkAndAdd_2_4 post f (.inl (nI k, nI i, ax 0, ax (lr_pos t i), LP, pv, pn)) := by
  intro f
  induction f with
  | zero => intro i pv _ z; omega
  | succ f ih =>
    intro i pv hi hf hv ho
    have hp := lr_pos_lt ht i
    by_cases e : i = k
    · subst e
      have h := H pv hv ho
      refine br_t (nI_le (Nat.le_refl _) hk) ?_
      by_cases e0 : lr_pos t i = 0
      · rw [lr_ans, if_pos e0] at h
        exact br_t (by rw [e0]) h
      · rw [lr_ans, if_neg e0, ← hv _ hp] at h
        exact br_f (fun z => e0 (hj _ _ hp (by decide) z)) ⟨hn _ hp, hn _ hp, h⟩
    · refine br_f (nI_ge (show i < k by omega) hk) ⟨hn _ hp, nm_r (show pv (ax (lr_pos t i)) + nI i = lr_val t v i (lr_pos t i) + nI i by rw [hv _ hp]) (op_s (hx _ hp) (nm_r (nI_1 i) ?_))⟩
      exact ih (i + 1) _ (by omega) (by omega) (lr_has_up hj hp hv) (lr_off_up hp ho)
theorem lr_na {post : Option Nat → Prop} {pv : Nat → Int32} (hn : lr_in LP ax) (hx : lr_nx pn ax t 3) (ht : lr_t3 t) (hk : k < 2 ^ 31) (H : post (some (ax (lr_pos t k)))) : wpX6_nodeAt_2 post (LP, pv, pn) (ax 0) (nI k) := by
  have g : ∀ f i, i ≤ k → k - i < f → wX6_nodeAt_2_4 post LP pv pn f (.inl (nI k, nI i, ax (lr_pos t i))) := by
    intro f
    induction f with
    | zero => intro i _ z; omega
    | succ f ih =>
      intro i hi hf
      have hp := lr_pos_lt ht i
      by_cases e : i = k
      · subst e
        exact br_t (nI_le (Nat.le_refl _) hk) H
      · refine br_f (nI_ge (show i < k by omega) hk) ⟨hn _ hp, op_s (hx _ hp) (nm_r (nI_1 i) ?_)⟩
        exact ih (i + 1) (by omega) (by omega)
  exact ⟨k + 1, g (k + 1) 0 (by omega) (by omega)⟩
theorem lr_x6 {post : Int32 → St1 → Prop} (hn : lr_in LP ax) (hx : lr_nx pn ax t 3) (ht : lr_t3 t) (hj : lr_inj ax) (hk : k < 2 ^ 31)
    (H : ∀ pv, lr_has pv ax (lr_val t v k) → lr_off pv0 pv ax → post (lr_ans t v k) (LP, pv, pn)) :
    ∀ f i pv, i ≤ k → k - i < f → lr_has pv ax (lr_val t v i) → lr_off pv0 pv ax → wX6_walkAndAdd_2_8 post (nI k) (ax 0) LP pn f (nI i) pv := by
  intro f
  induction f with
  | zero => intro i pv _ z; omega
  | succ f ih =>
    intro i pv hi hf hv ho
    have hp := lr_pos_lt ht i
    by_cases e : i = k
    · subst e
      have h := H pv hv ho
      refine br_t (nI_le (Nat.le_refl _) hk) (lr_na hn hx ht hk (op_s rfl ?_))
      by_cases e0 : lr_pos t i = 0
      · rw [lr_ans, if_pos e0] at h
        exact br_t (by rw [e0]) h
      · rw [lr_ans, if_neg e0, ← hv _ hp] at h
        exact br_f (fun z => e0 (hj _ _ hp (by decide) z)) ⟨hn _ hp, h⟩
    · refine br_f (nI_ge (show i < k by omega) hk) (lr_na hn hx ht (by omega) (op_s rfl ⟨hn _ hp, nm_r (show pv (ax (lr_pos t i)) + nI i = lr_val t v i (lr_pos t i) + nI i by rw [hv _ hp]) (nm_r (nI_1 i) ?_)⟩))
      exact ih (i + 1) _ (by omega) (by omega) (lr_has_up hj hp hv) (lr_off_up hp ho)
end WALKS
end
section
/-! ===== made: three new nodes, linked by the bits ===== -/
/-- the two bits that link node i -/
def lr_m (b : Int32) (i : Nat) : Int32 := ((b.toUInt32 >>> ((2 * nI i).toUInt32 &&& Int32.toUInt32 31)).toInt32) &&& 3
/-- the place that node i leads to -/
def lr_to (b : Int32) (i : Nat) : Nat := if lr_m b i = 3 then 2 else (lr_m b i).toNatClampNeg
theorem lr_m_j (b : Int32) (i : Nat) : ∃ j : Nat, j < 4 ∧ lr_m b i = nI j := pk_andE _ 2 (by decide)
theorem lr_m_in {b : Int32} {i : Nat} (h : ¬ lr_m b i = 3) : ∃ j : Nat, j < 3 ∧ lr_m b i = nI j := by
  obtain ⟨j, hj, e⟩ := lr_m_j b i
  have n3 : j ≠ 3 := fun z => h (by rw [e, z]; rfl)
  exact ⟨j, by omega, e⟩
theorem lr_to_3 (b : Int32) : lr_t3 (lr_to b) := by
  intro i _
  unfold lr_to
  by_cases h : lr_m b i = 3
  · rw [if_pos h]; decide
  · obtain ⟨j, hj, e⟩ := lr_m_in h
    rw [if_neg h, e, nI_clamp (by omega)]
    exact hj
theorem lr_45 {post : St2 → Prop} {mc ms kc ks : Nat} {b : Int32} {am : Nat → Option Nat} {LP : List Nat} {pv : Nat → Int32} {pn0 : Nat → Option Nat} {ax : Nat → Nat}
    (ha : lr_arr am ax) (hn : lr_in LP ax) (hj : lr_inj ax) (H : ∀ pn, lr_nx pn ax (lr_to b) 3 → lr_off pn0 pn ax → post (am, LP, pv, pn)) :
    ∀ f i pn, i ≤ 3 → 3 - i < f → lr_nx pn ax (lr_to b) i → lr_off pn0 pn ax → wL_made_45 post mc ms b kc ks f (nI i) am LP pv pn := by
  intro f
  induction f with
  | zero => intro i pn _ z; omega
  | succ f ih =>
    intro i pn hi hf hx ho
    by_cases e : i = 3
    · subst e
      exact br_t (nI_le (Nat.le_refl 3) (by decide)) (H pn hx ho)
    · have hi3 : i < 3 := by omega
      have h1 : am (nI i).toNatClampNeg = some (ax i) := by rw [nI_clamp (by omega)]; exact ha i hi3
      have h2 : am (2 : Int32).toNatClampNeg = some (ax 2) := by
        rw [show (2 : Int32).toNatClampNeg = 2 by decide]; exact ha 2 (by decide)
      refine br_f (nI_ge (b := 3) hi3 (by decide)) (nm_r (e' := lr_m b i) rfl ⟨vp_in_nI hi3 (by decide), op_s h1 ?_⟩)
      by_cases h3 : lr_m b i = 3
      · refine br_t h3 (op_s h2 ⟨hn i hi3, nm_r (nI_1 i) ?_⟩)
        exact ih (i + 1) _ (by omega) (by omega) (lr_nx_up hj hi3 hx (by rw [lr_to, if_pos h3])) (lr_off_up hi3 ho)
      · obtain ⟨j, hj3, ej⟩ := lr_m_in h3
        have h4 : am (lr_m b i).toNatClampNeg = some (ax j) := by rw [ej, nI_clamp (by omega)]; exact ha j hj3
        refine br_f h3 ⟨by rw [ej]; exact vp_in_nI hj3 (by decide), op_s h4 ⟨hn i hi3, nm_r (nI_1 i) ?_⟩⟩
        exact ih (i + 1) _ (by omega) (by omega) (lr_nx_up hj hi3 hx (by rw [lr_to, if_neg h3, ej, nI_clamp (by omega)])) (lr_off_up hi3 ho)
theorem lr_made {post : St2 → Prop} {mc ms : Nat} {LP : List Nat} {pv : Nat → Int32} {pn : Nat → Option Nat} {a b c bits : Int32} (hm : 4 ≤ mc) (hs : 9 ≤ ms)
    (H : ∀ am LP' pv' pn' ax, lr_arr am ax → lr_inj ax → (∀ i, i < 3 → ax i ∉ LP) → lr_in LP' ax → lr_nx pn' ax (lr_to bits) 3 → lr_has pv' ax (lr_3 a b c) →
      (∀ q, q ∈ LP → q ∈ LP' ∧ pv' q = pv q ∧ pn' q = pn q) → post (am, LP', pv', pn')) : wpL_made post mc ms (LP, pv, pn) a b c bits := by
  refine ⟨by omega, by omega, by omega, by omega, fun q0 h0 => ⟨cm_last _ _, cm_last _ _, nm_e ⟨by omega, by omega, fun q1 h1 => ⟨cm_last _ _, cm_last _ _, nm_e ⟨by omega, by omega, fun q2 h2 => ⟨cm_last _ _, cm_last _ _, nm_e ⟨4, ?_⟩⟩⟩⟩⟩⟩⟩
  have l1 : q1 ∉ LP := fun z => h1 (List.mem_append_left _ z)
  have n10 : q1 ≠ q0 := fun z => h1 (by rw [z]; exact cm_last _ _)
  have l2 : q2 ∉ LP := fun z => h2 (List.mem_append_left _ (List.mem_append_left _ z))
  have n20 : q2 ≠ q0 := fun z => h2 (List.mem_append_left _ (by rw [z]; exact cm_last _ _))
  have n21 : q2 ≠ q1 := fun z => h2 (by rw [z]; exact cm_last _ _)
  have hj : lr_inj (lr_3 q0 q1 q2) := by
    intro i j hi hj
    have ei : i = 0 ∨ i = 1 ∨ i = 2 := by omega
    have ej : j = 0 ∨ j = 1 ∨ j = 2 := by omega
    rcases ei with rfl | rfl | rfl <;> rcases ej with rfl | rfl | rfl <;> intro z
    · rfl
    · exact absurd (show q0 = q1 from z) (Ne.symm n10)
    · exact absurd (show q0 = q2 from z) (Ne.symm n20)
    · exact absurd (show q1 = q0 from z) n10
    · rfl
    · exact absurd (show q1 = q2 from z) (Ne.symm n21)
    · exact absurd (show q2 = q0 from z) n20
    · exact absurd (show q2 = q1 from z) n21
    · rfl
  have hn : lr_in (((LP ++ [q0]) ++ [q1]) ++ [q2]) (lr_3 q0 q1 q2) := by
    intro i hi
    exact co_3 (P := fun i => lr_3 q0 q1 q2 i ∈ ((LP ++ [q0]) ++ [q1]) ++ [q2]) (List.mem_append_left _ (List.mem_append_left _ (cm_last _ _))) (List.mem_append_left _ (cm_last _ _)) (cm_last _ _) hi
  have hf : ∀ i, i < 3 → lr_3 q0 q1 q2 i ∉ LP := by
    intro i hi
    exact co_3 (P := fun i => lr_3 q0 q1 q2 i ∉ LP) h0 l1 l2 hi
  refine lr_45 (ax := lr_3 q0 q1 q2) (pn0 := va_up (va_up (va_up (va_up (va_up (va_up pn q0 none) q0 none) q1 none) q1 none) q2 none) q2 none) ?_ hn hj ?_ 4 0 _ (by omega) (by omega) (fun j z => absurd z (by omega)) (lr_off_0 _ _)
  · intro i hi
    rw [show (0 : Int32).toNatClampNeg = 0 by decide, show (1 : Int32).toNatClampNeg = 1 by decide, show (2 : Int32).toNatClampNeg = 2 by decide]
    exact co_3 (P := fun i => va_up (va_up (va_up (fun _ => none) 0 (some q0)) 1 (some q1)) 2 (some q2) i = some (lr_3 q0 q1 q2 i)) rfl rfl rfl hi
  · intro pn' hx ho
    refine H _ _ _ pn' (lr_3 q0 q1 q2) ?_ hj hf hn hx (fun i hi => lr_up3 pv 0 0 0 a b c n10 n20 n21 hi) (fun q hq => ?_)
    · intro i hi
      rw [show (0 : Int32).toNatClampNeg = 0 by decide, show (1 : Int32).toNatClampNeg = 1 by decide, show (2 : Int32).toNatClampNeg = 2 by decide]
      exact co_3 (P := fun i => va_up (va_up (va_up (fun _ => none) 0 (some q0)) 1 (some q1)) 2 (some q2) i = some (lr_3 q0 q1 q2 i)) rfl rfl rfl hi
    · have m0 : q ≠ q0 := fun z => h0 (by rw [← z]; exact hq)
      have m1 : q ≠ q1 := fun z => l1 (by rw [← z]; exact hq)
      have m2 : q ≠ q2 := fun z => l2 (by rw [← z]; exact hq)
      refine ⟨List.mem_append_left _ (List.mem_append_left _ (List.mem_append_left _ hq)), lr_up3n pv 0 0 0 a b c m0 m1 m2, ?_⟩
      rw [ho q (fun i hi => co_3 (P := fun i => q ≠ lr_3 q0 q1 q2 i) m0 m1 m2 hi)]
      exact lr_up3n pn none none none none none none m0 m1 m2
end
section
/-! ===== the law's own loops, behind the two walks ===== -/
section REST
variable {post : Int32 → St1 → Prop} {mc ms kc ks : Nat} {am am' : Nat → Option Nat} {LP : List Nat} {pn : Nat → Option Nat} {ax ay t : Nat → Nat}
theorem lr_126 (H : ∀ u, post 1 u) (ha : lr_arr am ax) (ha' : lr_arr am' ay) (hn : lr_in LP ax) (hn' : lr_in LP ay) (hx : lr_nx pn ax t 3) (hx' : lr_nx pn ay t 3) (ht : lr_t3 t)
    {pv w : Nat → Int32} (hv : lr_has pv ax w) (hv' : lr_has pv ay w) : ∀ f i, i ≤ 3 → 3 - i < f → wL_lawOf_126 post mc ms kc ks am am' LP pv pn f (nI i) := by
  intro f
  induction f with
  | zero => intro i _ z; omega
  | succ f ih =>
    intro i hi hf
    by_cases e : i = 3
    · subst e
      exact br_t (nI_le (Nat.le_refl 3) (by decide)) (H _)
    · have hi3 : i < 3 := by omega
      have h1 : am (nI i).toNatClampNeg = some (ax i) := by rw [nI_clamp (by omega)]; exact ha i hi3
      have h1' : am' (nI i).toNatClampNeg = some (ay i) := by rw [nI_clamp (by omega)]; exact ha' i hi3
      have hv2 : pv (ax (t i)) = pv (ay (t i)) := by rw [hv _ (ht i hi3), hv' _ (ht i hi3)]
      refine br_f (nI_ge (b := 3) hi3 (by decide)) ⟨vp_in_nI hi3 (by decide), op_s h1 ⟨hn i hi3, op_s (hx i hi3) ⟨hn _ (ht i hi3), vp_in_nI hi3 (by decide), op_s h1' ⟨hn' i hi3, op_s (hx' i hi3) ⟨hn' _ (ht i hi3), br_t hv2 (nm_r (nI_1 i) ?_)⟩⟩⟩⟩⟩
      exact ih (i + 1) (by omega) (by omega)
theorem lr_91 (H : ∀ u, post 1 u) (ha : lr_arr am ax) (ha' : lr_arr am' ay) (hn : lr_in LP ax) (hn' : lr_in LP ay) (hx : lr_nx pn ax t 3) (hx' : lr_nx pn ay t 3) (ht : lr_t3 t)
    (hj : lr_inj ax) (hj' : lr_inj ay) (hd : ∀ i j, i < 3 → j < 3 → ax i ≠ ay j) :
    ∀ f i pv, i ≤ 3 → 3 - i < f → (∀ j, j < i → pv (ax j) = nI j ∧ pv (ay j) = nI j) → wL_lawOf_91 post mc ms kc ks am am' LP pn f (nI i) pv := by
  intro f
  induction f with
  | zero => intro i pv _ z; omega
  | succ f ih =>
    intro i pv hi hf hv
    by_cases e : i = 3
    · subst e
      exact br_t (nI_le (Nat.le_refl 3) (by decide)) ⟨4, lr_126 (w := nI) H ha ha' hn hn' hx hx' ht (fun j h => (hv j h).1) (fun j h => (hv j h).2) 4 0 (by omega) (by omega)⟩
    · have hi3 : i < 3 := by omega
      have h1 : am (nI i).toNatClampNeg = some (ax i) := by rw [nI_clamp (by omega)]; exact ha i hi3
      have h1' : am' (nI i).toNatClampNeg = some (ay i) := by rw [nI_clamp (by omega)]; exact ha' i hi3
      refine br_f (nI_ge (b := 3) hi3 (by decide)) ⟨vp_in_nI hi3 (by decide), op_s h1 ⟨hn i hi3, vp_in_nI hi3 (by decide), op_s h1' ⟨hn' i hi3, nm_r (nI_1 i) ?_⟩⟩⟩
      refine ih (i + 1) _ (by omega) (by omega) (fun j hj3 => ?_)
      by_cases ej : j = i
      · rw [ej, va_up_ne _ _ (hd i i hi3 hi3), va_up_self, va_up_self]
        exact ⟨rfl, rfl⟩
      · have hjl : j < 3 := by omega
        rw [va_up_ne _ _ (hd j i hjl hi3), va_up_ne _ _ (fun z : ax j = ax i => ej (hj j i hjl hi3 z)), va_up_ne _ _ (fun z : ay j = ay i => ej (hj' j i hjl hi3 z)), va_up_ne _ _ (Ne.symm (hd i j hi3 hjl))]
        exact hv j (by omega)
theorem lr_55 (H : ∀ u, post 1 u) (ha : lr_arr am ax) (ha' : lr_arr am' ay) (hn : lr_in LP ax) (hn' : lr_in LP ay) (hx : lr_nx pn ax t 3) (hx' : lr_nx pn ay t 3) (ht : lr_t3 t)
    (hj : lr_inj ax) (hj' : lr_inj ay) (hd : ∀ i j, i < 3 → j < 3 → ax i ≠ ay j) {pv w : Nat → Int32} (hv : lr_has pv ax w) (hv' : lr_has pv ay w) :
    ∀ f i, i ≤ 3 → 3 - i < f → wL_lawOf_55 post mc ms kc ks am am' LP pv pn f (nI i) := by
  intro f
  induction f with
  | zero => intro i _ z; omega
  | succ f ih =>
    intro i hi hf
    by_cases e : i = 3
    · subst e
      exact br_t (nI_le (Nat.le_refl 3) (by decide)) ⟨4, lr_91 H ha ha' hn hn' hx hx' ht hj hj' hd 4 0 pv (by omega) (by omega) (fun j z => absurd z (by omega))⟩
    · have hi3 : i < 3 := by omega
      have h1 : am (nI i).toNatClampNeg = some (ax i) := by rw [nI_clamp (by omega)]; exact ha i hi3
      have h1' : am' (nI i).toNatClampNeg = some (ay i) := by rw [nI_clamp (by omega)]; exact ha' i hi3
      have hv2 : pv (ax i) = pv (ay i) := by rw [hv _ hi3, hv' _ hi3]
      refine br_f (nI_ge (b := 3) hi3 (by decide)) ⟨vp_in_nI hi3 (by decide), op_s h1 ⟨hn i hi3, vp_in_nI hi3 (by decide), op_s h1' ⟨hn' i hi3, br_t hv2 (nm_r (nI_1 i) ?_)⟩⟩⟩
      exact ih (i + 1) (by omega) (by omega)
end REST
/-! ===== the top ===== -/
theorem lr_lawOf {post : Int32 → St1 → Prop} {mc ms : Nat} {u : St1} {a b c bits : Int32} (hm : 8 ≤ mc) (hs : 18 ≤ ms) (H : ∀ u, post 1 u) : wpL_lawOf post mc ms u a b c bits := by
  obtain ⟨LP, pv, pn⟩ := u
  refine ⟨4, 9, by omega, by omega, lr_made (by decide) (by decide) ?_⟩
  intro am LP1 pv1 pn1 ax ha hj _ hn1 hx1 hv1 _
  refine ⟨4, 9, by omega, by omega, lr_made (by decide) (by decide) ?_⟩
  intro am' LP2 pv2 pn2 ay ha' hj' hf hn' hx' hv' hk x6 e6
  have hn : lr_in LP2 ax := fun i hi => (hk _ (hn1 i hi)).1
  have hx : lr_nx pn2 ax (lr_to bits) 3 := fun i hi => ((hk _ (hn1 i hi)).2.2).trans (hx1 i hi)
  have hv : lr_has pv2 ax (lr_3 a b c) := fun i hi => ((hk _ (hn1 i hi)).2.1).trans (hv1 i hi)
  have hd : ∀ i j, i < 3 → j < 3 → ax i ≠ ay j := fun i j hi hj3 z => hf j hj3 (by rw [← z]; exact hn1 i hi)
  have ht := lr_to_3 bits
  have h0 : am (0 : Int32).toNatClampNeg = some (ax 0) := by rw [sb_cl0]; exact ha 0 (by decide)
  have h0' : am' (0 : Int32).toNatClampNeg = some (ay 0) := by rw [sb_cl0]; exact ha' 0 (by decide)
  obtain ⟨j, hj8, ej⟩ := pk_andE ((bits.toUInt32 >>> ((6 : Int32).toUInt32 &&& Int32.toUInt32 31)).toInt32) (m := 7) 3 (by decide)
  rw [ej] at e6
  refine op_s h0 ?_
  have hc : (x6 ≤ 0 ∧ ¬ 0 < x6) ∨ ∃ k, k ≤ 6 ∧ 0 < k ∧ x6 = nI k := by
    have c3 : j = 0 ∨ j = 1 ∨ 2 ≤ j := by omega
    rcases c3 with z | z | z
    · rw [e6, z]
      exact Or.inl (by decide)
    · rw [e6, z]
      exact Or.inl (by decide)
    · obtain ⟨k, ek⟩ : ∃ k, j = k + 1 := ⟨j - 1, by omega⟩
      rw [ek, nI_pred] at e6
      exact Or.inr ⟨k, by omega, by omega, e6⟩
  rcases hc with ⟨z1, z2⟩ | ⟨k, hk6, hk0, z⟩
  · exact ⟨1, br_t z1 (br_t rfl (op_s h0' (br_f z2 (br_t rfl ⟨4, lr_55 H ha ha' hn hn' hx hx' ht hj hj' hd hv hv' 4 0 (by omega) (by omega)⟩))))⟩
  · subst z
    refine ⟨k + 1, lr_x5 (v := lr_3 a b c) (pv0 := pv2) hn hx ht hj (by omega) ?_ (k + 1) 0 pv2 (by omega) (by omega) hv (lr_off_0 _ _)⟩
    intro pv3 hv3 ho3
    have hv3' : lr_has pv3 ay (lr_3 a b c) := fun i hi => (ho3 _ (fun m hm3 => Ne.symm (hd m i hm3 hi))).trans (hv' i hi)
    refine op_s h0' (br_t (nI_lt hk0 (by omega)) ⟨k + 1, lr_x6 (v := lr_3 a b c) (pv0 := pv3) hn' hx' ht hj' (by omega) ?_ (k + 1) 0 pv3 (by omega) (by omega) hv3' (lr_off_0 _ _)⟩)
    intro pv4 hv4' ho4
    have hv4 : lr_has pv4 ax (lr_val (lr_to bits) (lr_3 a b c) k) := fun i hi => (ho4 _ (fun m hm3 => hd i m hi hm3)).trans (hv3 i hi)
    exact br_t rfl ⟨4, lr_55 H ha ha' hn hn' hx hx' ht hj hj' hd hv4 hv4' 4 0 (by omega) (by omega)⟩
theorem lr_cell {post : Int32 → Prop} {L : Nat} {xs : Nat → Int32} {u : St0} {p : Int32} (c : Nat) (hp : p = nI c) (hc : c < 2 ^ 31) (hL : L < 2 ^ 31) (H : ∀ r, post r) : wpL_cellAt post L xs u p :=
  pk_le L c (fun _ => H _) (fun z => ⟨pk_in c L z hp hL, H _⟩) rfl hp hL hc
theorem i_vc (xs : Nat → Int32) (L : Nat) (hL : L ≤ 4) : wpL_law (fun r => r = 1) L xs :=
  lr_cell 0 rfl (by decide) (by omega) (fun _ => lr_cell 1 rfl (by decide) (by omega) (fun _ => lr_cell 2 rfl (by decide) (by omega) (fun _ => lr_cell 3 rfl (by decide) (by omega) (fun _ =>
    ⟨8, 18, by decide, by decide, lr_lawOf (by decide) (by decide) (fun _ => rfl)⟩))))
end
