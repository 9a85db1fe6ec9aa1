section
/-! the distances: sixteen of them, what a hundred divided by each is -/
def de_a (j : Nat) : Int32 := if nI j - 8 = 0 then 100 else nI j - 8
def de_s (j : Nat) : Nat := if j < 8 then 8 - j else if j = 8 then 100 else j - 8
def de_ok (d : Int32) : Prop := ∃ j : Nat, j < 16 ∧ d = de_a j
theorem de_t1 : ∀ j, j < 16 → ¬ de_a j = 0 ∧ ¬ 100 / de_a j < (-128) ∧ ¬ 127 < 100 / de_a j := by decide +kernel
theorem de_t2 : ∀ j, j < 16 → 1 ≤ de_s j ∧ de_s j ≤ 100 := by decide +kernel
theorem de_t3 : ∀ j, j < 16 → (0 ≤ de_a j → de_a j = nI (de_s j) ∧ nI (100 / de_s j) = 100 / de_a j) := by decide +kernel
theorem de_t4 : ∀ j, j < 16 → (¬ 0 ≤ de_a j → -de_a j = nI (de_s j) ∧ -nI (100 / de_s j) = 100 / de_a j) := by decide +kernel
theorem de_n0 {d : Int32} (h : de_ok d) : ¬ d = 0 := by
  obtain ⟨j, hj, rfl⟩ := h
  exact (de_t1 j hj).1
theorem de_lo {d : Int32} (h : de_ok d) : ¬ 100 / d < (-128) := by
  obtain ⟨j, hj, rfl⟩ := h
  exact (de_t1 j hj).2.1
theorem de_hi {d : Int32} (h : de_ok d) : ¬ 127 < 100 / d := by
  obtain ⟨j, hj, rfl⟩ := h
  exact (de_t1 j hj).2.2
/-- the distance's size s: d is s or -s, a hundred divided by d is the same of 100 / s -/
theorem de_pos {d : Int32} (h : de_ok d) (h0 : 0 ≤ d) : ∃ s : Nat, 1 ≤ s ∧ s ≤ 100 ∧ d = nI s ∧ nI (100 / s) = 100 / d := by
  obtain ⟨j, hj, rfl⟩ := h
  exact ⟨de_s j, (de_t2 j hj).1, (de_t2 j hj).2, (de_t3 j hj h0).1, (de_t3 j hj h0).2⟩
theorem de_neg {d : Int32} (h : de_ok d) (h0 : ¬ 0 ≤ d) : ∃ s : Nat, 1 ≤ s ∧ s ≤ 100 ∧ -d = nI s ∧ -nI (100 / s) = 100 / d := by
  obtain ⟨j, hj, rfl⟩ := h
  exact ⟨de_s j, (de_t2 j hj).1, (de_t2 j hj).2, (de_t4 j hj h0).1, (de_t4 j hj h0).2⟩
/-- what the law makes out of its bits -/
def de_l (b : Int32) : Int32 := ((b.toUInt32 >>> ((28 : Int32).toUInt32 &&& Int32.toUInt32 31)).toInt32) &&& 7
def de_x (b : Int32) (i : Nat) : Int32 := (((b.toUInt32 >>> ((4 * nI i).toUInt32 &&& Int32.toUInt32 31)).toInt32) &&& 15) - 8
def de_d (b : Int32) (i : Nat) : Int32 := if de_x b i = 0 then 100 else de_x b i
def de_f (b v : Int32) (i : Nat) : Int32 := v + de_d b i
theorem de_len (b : Int32) : ∃ c : Nat, c < 8 ∧ de_l b = nI c := pk_andE _ 3 (by decide)
theorem de_dok (b : Int32) (i : Nat) : de_ok (de_d b i) := by
  obtain ⟨j, hj, e⟩ := pk_andE ((b.toUInt32 >>> ((4 * nI i).toUInt32 &&& Int32.toUInt32 31)).toInt32) (m := 15) 4 (by decide)
  refine ⟨j, hj, ?_⟩
  unfold de_d de_x de_a
  rw [e]
theorem de_fd (b v : Int32) (i : Nat) : de_f b v i - v = de_d b i := by
  unfold de_f
  rw [Int32.add_comm, Int32.add_sub_cancel]
theorem de_fok (b v : Int32) (i : Nat) : de_ok (de_f b v i - v) := by
  rw [de_fd]
  exact de_dok b i
/-! boxes and lists -/
/-- Integer.valueOf: the caller needn't know whether the box is new -/
theorem de_valueOf {post : Option Nat → StJd1a94 → Prop} {mc ms : Nat} {adB : Nat → Nat} {LP : List Nat} {p : Nat → Int32} (v : Int32) (hm : 1 ≤ mc) (hs : 1 ≤ ms)
    (h : ∀ y LP' p', vb_bx LP' p' adB y v → (∀ z w, vb_bx LP p adB z w → vb_bx LP' p' adB z w) → post (some y) (LP', p')) : wpJ6_valueOf_2dffe_e41c5 post mc ms adB (LP, p) v := by
  have key : wJ6_valueOf_2dffe_e41c5_23 post mc ms adB v 0 0 LP p := by
    refine ⟨by omega, by omega, fun q hq => ⟨Or.inl (List.mem_append.mpr (Or.inr (List.mem_singleton.mpr rfl))), ?_⟩⟩
    show q ∈ LP ++ [q] ∧ post (some q) (LP ++ [q], va_up (va_up p q 0) q v)
    rw [bx_uu]
    exact ⟨List.mem_append.mpr (Or.inr (List.mem_singleton.mpr rfl)), h q _ _ bx_new (fun z w hz => bx_grow hz hq)⟩
  refine ⟨fun _ => key, fun h1 => ⟨fun _ => key, fun h2 => ?_⟩⟩
  obtain ⟨j, hj, e, ev⟩ := bx_small h1 h2
  rw [e, nI_clamp (by omega)]
  exact ⟨vp_in_nI hj (by omega), h _ _ _ (Or.inr ⟨j, hj, rfl, ev⟩) (fun z w hz => hz)⟩
/-- .. of a small int: nothing is made -/
theorem de_val {post : Option Nat → StJd1a94 → Prop} {mc ms : Nat} {adB : Nat → Nat} {LP : List Nat} {p : Nat → Int32} {v : Int32} (h1 : ¬ v < (-128)) (h2 : ¬ 127 < v)
    (h : ∀ y, vb_bx LP p adB y v → post (some y) (LP, p)) : wpJ6_valueOf_2dffe_e41c5 post mc ms adB (LP, p) v := by
  refine br_f h1 (br_f h2 ?_)
  obtain ⟨j, hj, e, ev⟩ := bx_small h1 h2
  rw [e, nI_clamp (by omega)]
  exact ⟨vp_in_nI hj (by omega), h _ (Or.inr ⟨j, hj, rfl, ev⟩)⟩
theorem de_add {post : Int32 → StJ174e4 → Prop} {mc ms : Nat} {adB : Nat → Nat} {m : Int32} {c n : Nat} {a : Nat → Option Nat} {LP : List Nat} {p : Nat → Int32} {q : Nat} (hc : c < n) (hn : n < 2 ^ 31) (hq : vb_bm LP adB q)
    (h : post 1 (m + 1, nI (c + 1), va_up a c (some q), n, LP, p)) : wpJx4a65c_add_9ea2d_fa824 post mc ms adB (m, nI c, a, n, LP, p) q := by
  intro f1 e1
  subst e1
  refine ⟨0, 0, by omega, by omega, br_f (fun z => absurd ((nI_eq (by omega) hn).mp z) (by omega)) ⟨vp_in_nI hc hn, hq, ?_⟩⟩
  intro a' ea f' ef
  rw [nI_clamp (by omega)] at ea
  rw [nI_1] at ef
  subst ea ef
  exact h
theorem de_add_first {post : Int32 → StJ174e4 → Prop} {mc ms : Nat} {adB : Nat → Nat} {m : Int32} {LP : List Nat} {p : Nat → Int32} {q : Nat} (hm : 1 ≤ mc) (hs : 10 ≤ ms) (hq : vb_bm LP adB q)
    (h : post 1 (m + 1, nI 1, va_up (fun _ => none) 0 (some q), 10, LP, p)) : wpJx4a65c_add_9ea2d_8607b post mc ms adB (m, 0, LP, p) q := by
  intro f1 e1
  subst e1
  refine ⟨1, 10, by omega, by omega, br_t rfl ⟨1, 10, by omega, by omega, ⟨1, 10, by omega, by omega, by decide, ?_⟩⟩⟩
  intro n en
  have e10 : n = 10 := en.trans (by decide)
  subst e10
  refine ⟨by decide, by decide, by decide, ⟨by unfold vp_in; decide, hq, ?_⟩⟩
  intro a' ea f' ef
  have ea' : a' = va_up (fun _ => none) 0 (some q) := ea.trans (by rw [show (0 : Int32).toNatClampNeg = 0 by decide])
  have ef' : f' = nI 1 := ef.trans (by decide)
  subst ea' ef'
  exact h
/-- get(i) of a list of c elements, where a box stands -/
theorem de_get {post : Option Nat → Prop} {adB : Nat → Nat} {m : Int32} {c n i y : Nat} {a : Nat → Option Nat} {LP : List Nat} {p : Nat → Int32} (hi : i < c) (hc : c ≤ n) (hn : n < 2 ^ 31) (ha : a i = some y) (h : post (some y)) : wpJx4a65c_get_915e3_e1769 post adB (m, nI c, a, n, LP, p) (nI i) := by
  have e : a (nI i).toNatClampNeg = some y := by rw [nI_clamp (by omega)]; exact ha
  exact br_f (nI_pos (by omega)) (br_t (nI_lt hi (by omega)) ⟨vp_in_nI (by omega) hn, op_s e (op_s rfl h)⟩)
/-- set(i, q) of a list of c elements, where a box stood -/
theorem de_set {post : Option Nat → StJ174e4 → Prop} {adB : Nat → Nat} {m : Int32} {c n i y q : Nat} {a : Nat → Option Nat} {LP : List Nat} {p : Nat → Int32} (hi : i < c) (hc : c ≤ n) (hn : n < 2 ^ 31) (ha : a i = some y) (hq : vb_bm LP adB q)
    (h : post (some y) (m, nI c, va_up a i (some q), n, LP, p)) : wpJx4a65c_set_bcc79_56225 post adB (m, nI c, a, n, LP, p) q (nI i) := by
  have e : a (nI i).toNatClampNeg = some y := by rw [nI_clamp (by omega)]; exact ha
  refine br_f (nI_pos (by omega)) (br_t (nI_lt hi (by omega)) ⟨vp_in_nI (by omega) hn, op_s e (op_s rfl ⟨vp_in_nI (by omega) hn, hq, ?_⟩)⟩)
  intro a' ea
  rw [nI_clamp (by omega)] at ea
  subst ea
  exact h
/-- a list's ints, one more -/
theorem de_rows_add {LP LP' : List Nat} {p p' : Nat → Int32} {ad : Nat → Nat} {a : Nat → Option Nat} {f : Nat → Int32} {c y : Nat} (h : bx_rows LP p ad a f c) (hk : ∀ z w, vb_bx LP p ad z w → vb_bx LP' p' ad z w) (hx : vb_bx LP' p' ad y (f c)) :
    bx_rows LP' p' ad (va_up a c (some y)) f (c + 1) := by
  intro k hk'
  by_cases e : k = c
  · subst e
    exact ⟨y, va_up_self _ _ _, hx⟩
  · obtain ⟨z, h1, h2⟩ := h k (by omega)
    exact ⟨z, (va_up_ne _ _ e).trans h1, hk z _ h2⟩
theorem de_rows_keep {LP LP' : List Nat} {p p' : Nat → Int32} {ad : Nat → Nat} {a : Nat → Option Nat} {f : Nat → Int32} {c : Nat} (h : bx_rows LP p ad a f c) (hk : ∀ z w, vb_bx LP p ad z w → vb_bx LP' p' ad z w) : bx_rows LP' p' ad a f c := by
  intro k hk'
  obtain ⟨z, h1, h2⟩ := h k hk'
  exact ⟨z, h1, hk z _ h2⟩
/-- .. of which the first i have been replaced -/
def de_mix (f g : Nat → Int32) (i : Nat) : Nat → Int32 := fun j => if j < i then g j else f j
theorem de_mix_at (f g : Nat → Int32) (i : Nat) : de_mix f g i i = f i := if_neg (Nat.lt_irrefl i)
theorem de_mix_0 {LP : List Nat} {p : Nat → Int32} {ad : Nat → Nat} {a : Nat → Option Nat} {f g : Nat → Int32} {c : Nat} (h : bx_rows LP p ad a f c) : bx_rows LP p ad a (de_mix f g 0) c := by
  intro k hk
  obtain ⟨z, h1, h2⟩ := h k hk
  refine ⟨z, h1, ?_⟩
  rw [show de_mix f g 0 k = f k from if_neg (Nat.not_lt_zero k)]
  exact h2
theorem de_mix_c {LP : List Nat} {p : Nat → Int32} {ad : Nat → Nat} {a : Nat → Option Nat} {f g : Nat → Int32} {c : Nat} (h : bx_rows LP p ad a (de_mix f g c) c) : bx_rows LP p ad a g c := by
  intro k hk
  obtain ⟨z, h1, h2⟩ := h k hk
  refine ⟨z, h1, ?_⟩
  rw [show de_mix f g c k = g k from if_pos hk] at h2
  exact h2
theorem de_mix_put {LP : List Nat} {p : Nat → Int32} {ad : Nat → Nat} {a : Nat → Option Nat} {f g : Nat → Int32} {c i y : Nat} (h : bx_rows LP p ad a (de_mix f g i) c) (hx : vb_bx LP p ad y (g i)) : bx_rows LP p ad (va_up a i (some y)) (de_mix f g (i + 1)) c := by
  intro k hk
  by_cases e : k = i
  · subst e
    refine ⟨y, va_up_self _ _ _, ?_⟩
    rw [show de_mix f g (k + 1) k = g k from if_pos (Nat.lt_succ_self k)]
    exact hx
  · obtain ⟨z, h1, h2⟩ := h k hk
    refine ⟨z, (va_up_ne _ _ e).trans h1, ?_⟩
    have em : de_mix f g (i + 1) k = de_mix f g i k := by
      unfold de_mix
      by_cases hlt : k < i
      · rw [if_pos hlt, if_pos (by omega)]
      · rw [if_neg hlt, if_neg (by omega)]
    rw [em]
    exact h2
end
section
/-! the law's made(bits, by) -/
theorem de_48r {post : (St2 ⊕ St3) → Prop} {mc ms : Nat} {adB : Nat → Nat} {J} {b v x3 x5 m : Int32} {i kc ks : Nat} {a : Nat → Option Nat} {LP : List Nat} {p : Nat → Int32} (hi : i < 10) (hk : kc + 1 ≤ mc) (hs : ks + 1 ≤ ms)
    (h : ∀ y LP' p', vb_bx LP' p' adB y (v + x5) → (∀ z w, vb_bx LP p adB z w → vb_bx LP' p' adB z w) → J (.inr (b, v, x3, nI (i + 1), kc + 1, ks + 1, m + 1, nI (i + 1), va_up a i (some y), 10, LP', p'))) :
    wL_made_48_2 post mc ms adB J b v x3 (nI i) x5 kc ks m (nI i) a 10 LP p := by
  refine ⟨1, 1, hk, hs, de_valueOf _ (Nat.le_refl _) (Nat.le_refl _) fun y LP' p' hx hkp => ⟨fun z => (by cases z), fun y2 e2 => ?_⟩⟩
  cases e2
  refine ⟨0, 0, by omega, by omega, de_add hi (by omega) hx.bm ?_⟩
  exact nm_r (nI_1 i) (h y LP' p' hx hkp)
theorem de_48l {post : (St2 ⊕ St3) → Prop} {mc ms : Nat} {adB : Nat → Nat} {J} {b v x3 x5 m : Int32} {kc ks : Nat} {LP : List Nat} {p : Nat → Int32} (hk : kc + 2 ≤ mc) (hs : ks + 11 ≤ ms)
    (h : ∀ y LP' p', vb_bx LP' p' adB y (v + x5) → (∀ z w, vb_bx LP p adB z w → vb_bx LP' p' adB z w) → J (.inr (b, v, x3, nI 1, kc + 1 + 1, ks + 1 + 10, m + 1, nI 1, va_up (fun _ => none) 0 (some y), 10, LP', p'))) :
    wL_made_48 post mc ms adB J b v x3 0 x5 kc ks m 0 LP p := by
  refine ⟨1, 1, by omega, by omega, de_valueOf _ (Nat.le_refl _) (Nat.le_refl _) fun y LP' p' hx hkp => ⟨fun z => (by cases z), fun y2 e2 => ?_⟩⟩
  cases e2
  refine ⟨1, 10, by omega, by omega, de_add_first (Nat.le_refl _) (Nat.le_refl _) hx.bm ?_⟩
  exact nm_r (by decide) (h y LP' p' hx hkp)
/-- its loop, behind the first turn -/
theorem de_19r {post : (St2 ⊕ St3) → Prop} {mc ms : Nat} {adB : Nat → Nat} {b v : Int32} {c : Nat} {LP : List Nat} {p : Nat → Int32} (hc : c ≤ 7) (hmc : 9 ≤ mc) (hms : 20 ≤ ms)
    (H : ∀ m a LP' p', bx_rows LP' p' adB a (de_f b v) c → (∀ z w, vb_bx LP p adB z w → vb_bx LP' p' adB z w) → post (.inr (m, nI c, a, 10, LP', p'))) :
    ∀ (n i kc ks : Nat) (m : Int32) (a : Nat → Option Nat) (LP' : List Nat) (p' : Nat → Int32), i ≤ c → c < n + i → kc ≤ 2 + i → ks ≤ 13 + i → bx_rows LP' p' adB a (de_f b v) i → (∀ z w, vb_bx LP p adB z w → vb_bx LP' p' adB z w) →
      wL_made_19 post mc ms adB n (.inr (b, v, nI c, nI i, kc, ks, m, nI i, a, 10, LP', p')) := by
  intro n
  induction n with
  | zero => intro i kc ks m a LP' p' h1 h2; omega
  | succ n ih =>
    intro i kc ks m a LP' p' h1 h2 h3 h4 hr hkp
    by_cases hi : i = c
    · subst hi
      exact br_t (nI_le (Nat.le_refl i) (by omega)) (H m a LP' p' hr hkp)
    · refine br_f (nI_ge (by omega) (by omega)) (nm_e (br_c (fun z => ?_) (fun z => ?_)))
      · refine de_48r (by omega) (by omega) (by omega) fun y LP2 p2 hx hk2 => ?_
        refine ih (i + 1) _ _ _ _ _ _ (by omega) (by omega) (by omega) (by omega) (de_rows_add hr hk2 ?_) (fun w u hw => hk2 w u (hkp w u hw))
        rw [show de_f b v i = v + 100 from congrArg (v + ·) (if_pos z)]
        exact hx
      · refine de_48r (by omega) (by omega) (by omega) fun y LP2 p2 hx hk2 => ?_
        refine ih (i + 1) _ _ _ _ _ _ (by omega) (by omega) (by omega) (by omega) (de_rows_add hr hk2 ?_) (fun w u hw => hk2 w u (hkp w u hw))
        rw [show de_f b v i = v + de_x b i from congrArg (v + ·) (if_neg z)]
        exact hx
/-- made, of no element -/
theorem de_made0 {post : (St2 ⊕ St3) → Prop} {mc ms : Nat} {adB : Nat → Nat} {b v : Int32} {LP : List Nat} {p : Nat → Int32} (hl : de_l b = nI 0) (hmc : 1 ≤ mc) (hms : 3 ≤ ms) (h : post (.inl (0, 0, LP, p))) : wpL_made post mc ms adB (LP, p) b v := by
  refine ⟨hmc, hms, nm_r hl ⟨1, ?_⟩⟩
  exact br_t (by decide) h
/-- .. and of some -/
theorem de_made1 {post : (St2 ⊕ St3) → Prop} {mc ms : Nat} {adB : Nat → Nat} {b v : Int32} {c : Nat} {LP : List Nat} {p : Nat → Int32} (hl : de_l b = nI c) (h0 : 0 < c) (hc : c ≤ 7) (hmc : 9 ≤ mc) (hms : 20 ≤ ms)
    (H : ∀ m a LP' p', bx_rows LP' p' adB a (de_f b v) c → (∀ z w, vb_bx LP p adB z w → vb_bx LP' p' adB z w) → post (.inr (m, nI c, a, 10, LP', p'))) : wpL_made post mc ms adB (LP, p) b v := by
  refine ⟨by omega, by omega, nm_r hl ⟨c + 1, ?_⟩⟩
  refine br_f (nI_nle h0 (by omega)) (nm_e (br_c (fun z => ?_) (fun z => ?_)))
  · refine de_48l (by omega) (by omega) fun y LP2 p2 hx hk2 => ?_
    refine de_19r hc hmc hms H c 1 _ _ _ _ _ _ (by omega) (by omega) (by omega) (by omega) (de_rows_add bx_rows_0 hk2 ?_) hk2
    rw [show de_f b v 0 = v + 100 from congrArg (v + ·) (if_pos z)]
    exact hx
  · refine de_48l (by omega) (by omega) fun y LP2 p2 hx hk2 => ?_
    refine de_19r hc hmc hms H c 1 _ _ _ _ _ _ (by omega) (by omega) (by omega) (by omega) (de_rows_add bx_rows_0 hk2 ?_) hk2
    rw [show de_f b v 0 = v + de_x b 0 from congrArg (v + ·) (if_neg z)]
    exact hx
end
section
/-! divideEach: the class's, on a list that has its array -/
theorem de_X0 {post : Int32 → St3 → Prop} {mc ms : Nat} {adB : Nat → Nat} {v m : Int32} {c N : Nat} {f : Nat → Int32} {LP : List Nat} {p : Nat → Int32} (hok : ∀ i, de_ok (f i - v)) (hcn : c ≤ N) (hN : N < 2 ^ 31)
    (H : ∀ a, bx_rows LP p adB a (fun i => 100 / (f i - v)) c → post (nI c) (m, nI c, a, N, LP, p)) :
    ∀ (n i : Nat) (a : Nat → Option Nat), i ≤ c → c < n + i → bx_rows LP p adB a (de_mix f (fun i => 100 / (f i - v)) i) c → wX0_divideEach_2_4 post mc ms adB v n (nI i) (nI i) 0 0 m (nI c) a N LP p := by
  intro n
  induction n with
  | zero => intro i a h1 h2; omega
  | succ n ih =>
    intro i a h1 h2 hr
    by_cases hi : i = c
    · subst hi
      exact br_t (nI_le (Nat.le_refl i) (by omega)) (H a (de_mix_c hr))
    · have hic : i < c := by omega
      obtain ⟨y, ha, hx⟩ := hr i hic
      rw [de_mix_at] at hx
      refine br_f (nI_ge hic (by omega)) (de_get hic hcn hN ha (op_s rfl ⟨hx.bm, f i, hx, de_n0 (hok i), 0, 0, Nat.zero_le _, Nat.zero_le _, ?_⟩))
      refine de_val (de_lo (hok i)) (de_hi (hok i)) fun q hq => op_s rfl (de_set hic hcn hN ha hq.bm (op_s rfl (nm_r (nI_1 i) (nm_r (nI_1 i) ?_))))
      exact ih (i + 1) _ (by omega) (by omega) (de_mix_put hr hq)
theorem de_X0t {post : Int32 → St3 → Prop} {mc ms : Nat} {adB : Nat → Nat} {v m : Int32} {c N : Nat} {a : Nat → Option Nat} {f : Nat → Int32} {LP : List Nat} {p : Nat → Int32} (hok : ∀ i, de_ok (f i - v)) (hcn : c ≤ N) (hN : N < 2 ^ 31) (hr : bx_rows LP p adB a f c)
    (H : ∀ a, bx_rows LP p adB a (fun i => 100 / (f i - v)) c → post (nI c) (m, nI c, a, N, LP, p)) : wpX0_divideEach_2 post mc ms adB (m, nI c, a, N, LP, p) v :=
  ⟨c + 1, de_X0 hok hcn hN H (c + 1) 0 a (Nat.zero_le _) (by omega) (de_mix_0 hr)⟩
/-! .. and the twin's: its search for the greatest q -/
theorem de_46 {post : Int32 → St3 → Prop} {mc ms : Nat} {adB : Nat → Nat} {J} {x1 x2 x3 m sz : Int32} {s kc ks N : Nat} {a : Nat → Option Nat} {LP : List Nat} {p : Nat → Int32} (h1 : 1 ≤ s) (h2 : s ≤ 100)
    (H : (0 ≤ x3 → wX1_divideEach_2_99 post mc ms adB J x1 x2 (nI (100 / s)) x2 kc ks m sz a N LP p) ∧ (¬ 0 ≤ x3 → wX1_divideEach_2_99 post mc ms adB J x1 x2 (-nI (100 / s)) x2 kc ks m sz a N LP p)) :
    ∀ n i : Nat, i ≤ 100 → 100 < n + i → wX1_divideEach_2_46 post mc ms adB J x1 x2 x3 (nI s) kc ks m sz a N LP p n (nI (min i (100 / s))) (nI (i + 1)) := by
  have hd : 100 / s ≤ 100 := Nat.div_le_self 100 s
  intro n
  induction n with
  | zero => intro i h3 h4; omega
  | succ n ih =>
    intro i h3 h4
    by_cases hi : i = 100
    · subst hi
      rw [show min 100 (100 / s) = 100 / s by omega]
      exact br_t (show nI 100 < nI (100 + 1) from nI_lt (by omega) (by omega)) H
    · have hm : (i + 1) * s ≤ 100 * 100 := Nat.mul_le_mul (by omega) h2
      have t := ih (i + 1) (by omega) (by omega)
      refine br_f (show ¬ nI 100 < nI (i + 1) from nI_nlt (by omega) (by omega)) (br_f (nI_nle (by omega) (by omega)) (br_f (show ¬ nI 100 < nI s from nI_nlt h2 (by omega)) ?_))
      rw [pk_mul]
      refine pk_lt 100 ((i + 1) * s) (fun z => nm_r (nI_1 (i + 1)) ?_) (fun z => nm_r (nI_1 (i + 1)) ?_)
      · have hq : 100 / s < i + 1 := (Nat.div_lt_iff_lt_mul (by omega)).mpr z
        rw [show min (i + 1) (100 / s) = min i (100 / s) by omega] at t
        exact t
      · have hq : i + 1 ≤ 100 / s := (Nat.le_div_iff_mul_le (by omega)).mpr z
        rw [show min (i + 1) (100 / s) = i + 1 by omega] at t
        exact t
theorem de_46e {post : Int32 → St3 → Prop} {mc ms : Nat} {adB : Nat → Nat} {J} {x1 x2 x3 x4 m sz : Int32} {s kc ks N : Nat} {a : Nat → Option Nat} {LP : List Nat} {p : Nat → Int32} (h1 : 1 ≤ s) (h2 : s ≤ 100) (e4 : x4 = nI s)
    (H : (0 ≤ x3 → wX1_divideEach_2_99 post mc ms adB J x1 x2 (nI (100 / s)) x2 kc ks m sz a N LP p) ∧ (¬ 0 ≤ x3 → wX1_divideEach_2_99 post mc ms adB J x1 x2 (-nI (100 / s)) x2 kc ks m sz a N LP p)) :
    ∃ n, wX1_divideEach_2_46 post mc ms adB J x1 x2 x3 x4 kc ks m sz a N LP p n 0 1 := by
  subst e4
  refine ⟨101, ?_⟩
  have t := de_46 h1 h2 H 101 0 (by omega) (by omega)
  rw [Nat.zero_min] at t
  exact t
theorem de_99 {post : Int32 → St3 → Prop} {mc ms : Nat} {adB : Nat → Nat} {J} {x1 m z0 d : Int32} {i c y N : Nat} {a : Nat → Option Nat} {LP : List Nat} {p : Nat → Int32} (hok : de_ok d) (hz : z0 = 100 / d) (hic : i < c) (hcn : c ≤ N) (hN : N < 2 ^ 31) (ha : a i = some y)
    (H : ∀ q, vb_bx LP p adB q (100 / d) → J (nI (i + 1)) 0 0 m (nI c) (va_up a i (some q)) N LP p) : wX1_divideEach_2_99 post mc ms adB J x1 (nI i) z0 (nI i) 0 0 m (nI c) a N LP p := by
  subst hz
  refine ⟨0, 0, Nat.zero_le _, Nat.zero_le _, de_val (de_lo hok) (de_hi hok) fun q hq => op_s rfl (de_set hic hcn hN ha hq.bm (op_s rfl (nm_r (nI_1 i) ?_)))⟩
  exact H q hq
theorem de_X1 {post : Int32 → St3 → Prop} {mc ms : Nat} {adB : Nat → Nat} {v m : Int32} {c N : Nat} {f : Nat → Int32} {LP : List Nat} {p : Nat → Int32} (hok : ∀ i, de_ok (f i - v)) (hcn : c ≤ N) (hN : N < 2 ^ 31)
    (H : ∀ a, bx_rows LP p adB a (fun i => 100 / (f i - v)) c → post (nI c) (m, nI c, a, N, LP, p)) :
    ∀ (n i : Nat) (a : Nat → Option Nat), i ≤ c → c < n + i → bx_rows LP p adB a (de_mix f (fun i => 100 / (f i - v)) i) c → wX1_divideEach_2_2 post mc ms adB v n (nI i) 0 0 m (nI c) a N LP p := by
  intro n
  induction n with
  | zero => intro i a h1 h2; omega
  | succ n ih =>
    intro i a h1 h2 hr
    by_cases hi : i = c
    · subst hi
      exact br_t (nI_le (Nat.le_refl i) (by omega)) (H a (de_mix_c hr))
    · have hic : i < c := by omega
      obtain ⟨y, ha, hx⟩ := hr i hic
      rw [de_mix_at] at hx
      have nx : ∀ q, vb_bx LP p adB q (100 / (f i - v)) → wX1_divideEach_2_2 post mc ms adB v n (nI (i + 1)) 0 0 m (nI c) (va_up a i (some q)) N LP p := fun q hq => ih (i + 1) _ (by omega) (by omega) (de_mix_put hr hq)
      refine br_f (nI_ge hic (by omega)) (de_get hic hcn hN ha (op_s rfl ⟨hx.bm, f i, hx, nm_e (br_c (fun z => ?_) (fun z => nm_e ?_))⟩))
      · obtain ⟨s, s1, s2, s3, s4⟩ := de_pos (hok i) z
        exact de_46e s1 s2 s3 (br_t z (de_99 (hok i) s4 hic hcn hN ha nx))
      · obtain ⟨s, s1, s2, s3, s4⟩ := de_neg (hok i) z
        exact de_46e s1 s2 s3 (br_f z (de_99 (hok i) s4 hic hcn hN ha nx))
theorem de_X1t {post : Int32 → St3 → Prop} {mc ms : Nat} {adB : Nat → Nat} {v m : Int32} {c N : Nat} {a : Nat → Option Nat} {f : Nat → Int32} {LP : List Nat} {p : Nat → Int32} (hok : ∀ i, de_ok (f i - v)) (hcn : c ≤ N) (hN : N < 2 ^ 31) (hr : bx_rows LP p adB a f c)
    (H : ∀ a, bx_rows LP p adB a (fun i => 100 / (f i - v)) c → post (nI c) (m, nI c, a, N, LP, p)) : wpX1_divideEach_2 post mc ms adB (m, nI c, a, N, LP, p) v :=
  ⟨c + 1, de_X1 hok hcn hN H (c + 1) 0 a (Nat.zero_le _) (by omega) (de_mix_0 hr)⟩
/-! .. both on an empty list -/
theorem de_X0e {post : Int32 → St2 → Prop} {mc ms : Nat} {adB : Nat → Nat} {v m : Int32} {LP : List Nat} {p : Nat → Int32} (H : post 0 (m, 0, LP, p)) : wpX0_divideEach post mc ms adB (m, 0, LP, p) v :=
  ⟨1, br_t (show (0 : Int32) ≤ 0 by decide) H⟩
theorem de_X1e {post : Int32 → St2 → Prop} {mc ms : Nat} {adB : Nat → Nat} {v m : Int32} {LP : List Nat} {p : Nat → Int32} (H : post 0 (m, 0, LP, p)) : wpX1_divideEach post mc ms adB (m, 0, LP, p) v :=
  ⟨1, br_t (show (0 : Int32) ≤ 0 by decide) H⟩
end
section
/-! the law's own loop: two lists of the same ints -/
theorem de_47 {post : Int32 → St1 → Prop} {mc ms : Nat} {adB : Nat → Nat} {m2 m8 : Int32} {c N N' kc ks : Nat} {a a' : Nat → Option Nat} {f : Nat → Int32} {LP : List Nat} {p : Nat → Int32} (hcn : c ≤ N) (hN : N < 2 ^ 31) (hcn' : c ≤ N') (hN' : N' < 2 ^ 31) (hr : bx_rows LP p adB a f c) (hr' : bx_rows LP p adB a' f c) (H : post 1 (LP, p)) :
    ∀ n i : Nat, i ≤ c → c < n + i → wL_lawOf_47 post mc ms adB n (.inr (.inr (.inr (nI i, kc, ks, m2, nI c, a, N, m8, nI c, a', N', LP, p)))) := by
  intro n
  induction n with
  | zero => intro i h1 h2; omega
  | succ n ih =>
    intro i h1 h2
    by_cases hi : i = c
    · subst hi
      exact br_t (nI_le (Nat.le_refl i) (by omega)) H
    · have hic : i < c := by omega
      obtain ⟨y, ha, hx⟩ := hr i hic
      obtain ⟨y', ha', hx'⟩ := hr' i hic
      refine br_f (nI_ge hic (by omega)) (de_get hic hcn hN ha (op_s rfl ⟨hx.bm, f i, hx, de_get hic hcn' hN' ha' (op_s rfl ⟨hx'.bm, f i, hx', br_t rfl (nm_r (nI_1 i) ?_)⟩)⟩))
      exact ih (i + 1) (by omega) (by omega)
theorem de_lawOf {post : Int32 → St1 → Prop} {mc ms : Nat} {adB : Nat → Nat} {b v : Int32} {LP : List Nat} {p : Nat → Int32} (hmc : 18 ≤ mc) (hms : 40 ≤ ms) (H : ∀ LP' p', post 1 (LP', p')) : wpL_lawOf post mc ms adB (LP, p) b v := by
  obtain ⟨c, hc, hl⟩ := de_len b
  by_cases h0 : c = 0
  · subst h0
    refine ⟨1, 3, by omega, by omega, de_made0 hl (by omega) (by omega) ?_⟩
    refine ⟨1, 3, by omega, by omega, de_made0 hl (by omega) (by omega) ?_⟩
    refine ⟨0, 0, by omega, by omega, de_X0e ?_⟩
    refine ⟨0, 0, by omega, by omega, de_X1e ?_⟩
    exact br_t rfl (br_t rfl ⟨1, br_t (show (0 : Int32) ≤ 0 by decide) (H _ _)⟩)
  · refine ⟨9, 20, by omega, by omega, de_made1 hl (by omega) (by omega) (by omega) (by omega) fun m a LP1 p1 hr1 _ => ?_⟩
    refine ⟨9, 20, by omega, by omega, de_made1 hl (by omega) (by omega) (by omega) (by omega) fun m' a' LP2 p2 hr2 hk2 => ?_⟩
    refine ⟨0, 0, by omega, by omega, de_X0t (de_fok b v) (by omega) (by omega) (de_rows_keep hr1 hk2) fun a3 hr3 => ?_⟩
    refine ⟨0, 0, by omega, by omega, de_X1t (de_fok b v) (by omega) (by omega) hr2 fun a4 hr4 => ?_⟩
    exact br_t rfl (br_t rfl ⟨c + 1, de_47 (by omega) (by omega) (by omega) (by omega) hr3 hr4 (H _ _) (c + 1) 0 (Nat.zero_le _) (by omega)⟩)
theorem de_cell {post : Int32 → Prop} {L : Nat} {xs : Nat → Int32} (k : Nat) (hk : k < 2) (hL : L ≤ 2) (h : ∀ r, post r) : wpL_cellAt post L xs () (nI k) :=
  pk_le L k (fun _ => h _) (fun z => ⟨vp_in_nI z (by omega), h _⟩)
theorem i_vc (xs : Nat → Int32) (L : Nat) (hL : L ≤ 2) : wpL_law (fun r => r = 1) L xs := by
  intro adB
  refine de_cell 0 (by omega) hL fun r1 => de_cell 1 (by omega) hL fun r2 => ?_
  exact ⟨24, 384, by omega, by omega, de_lawOf (by omega) (by omega) fun _ _ => rfl⟩
end
