section
/-! the members of Integer and ArrayList that the law reaches -/
/-- Integer.valueOf of any int: the caller needn't know whether the box is new -/
theorem qz_box {post : Option Nat → StJd1a94 → Prop} {mc ms : Nat} {adB : Nat → Nat} {LP : List Nat} {p : Nat → Int32} (v : Int32) (hm : 1 ≤ mc) (hs : 1 ≤ ms)
    (h : ∀ y LP' p', vb_bx LP' p' adB y v → (∀ z w, vb_bx LP p adB z w → vb_bx LP' p' adB z w) → post (some y) (LP', p')) : wpJ6_valueOf_2dffe_e41c5 post mc ms adB (LP, p) v := by
  have key : wJ6_valueOf_2dffe_e41c5_23 post mc ms adB v 0 0 LP p := by
    refine ⟨by omega, by omega, fun q hq => ⟨Or.inl (List.mem_append.mpr (Or.inr (List.mem_singleton.mpr rfl))), ?_⟩⟩
    show q ∈ LP ++ [q] ∧ post (some q) (LP ++ [q], va_up (va_up p q 0) q v)
    rw [bx_uu]
    exact ⟨List.mem_append.mpr (Or.inr (List.mem_singleton.mpr rfl)), h q _ _ bx_new (fun z w hz => bx_grow hz hq)⟩
  refine ⟨fun _ => key, fun h1 => ⟨fun _ => key, fun h2 => ?_⟩⟩
  obtain ⟨j, hj, e, ev⟩ := bx_small h1 h2
  rw [e, nI_clamp (by omega)]
  exact ⟨vp_in_nI hj (by omega), h _ _ _ (Or.inr ⟨j, hj, rfl, ev⟩) (fun z w hz => hz)⟩
/-- .. of a small int: nothing is made -/
theorem qz_small {post : Option Nat → StJd1a94 → Prop} {mc ms : Nat} {adB : Nat → Nat} {LP : List Nat} {p : Nat → Int32} {v : Int32} (h1 : ¬ v < (-128)) (h2 : ¬ 127 < v)
    (h : ∀ y, vb_bx LP p adB y v → post (some y) (LP, p)) : wpJ6_valueOf_2dffe_e41c5 post mc ms adB (LP, p) v := by
  refine ⟨fun z => absurd z h1, fun _ => ⟨fun z => absurd z h2, fun _ => ?_⟩⟩
  obtain ⟨j, hj, e, ev⟩ := bx_small h1 h2
  rw [e, nI_clamp (by omega)]
  exact ⟨vp_in_nI hj (by omega), h _ (Or.inr ⟨j, hj, rfl, ev⟩)⟩
theorem qz_s16 : ∀ j, j < 16 → (¬ nI j < (-128)) ∧ ¬ 127 < nI j := by decide +kernel
/-- add where room is -/
theorem qz_add {post : Int32 → StJ174e4 → Prop} {mc ms : Nat} {adB : Nat → Nat} {m : Int32} {c n : Nat} {a : Nat → Option Nat} {LP : List Nat} {p : Nat → Int32} {q : Nat} (hc : c < n) (hn : n < 2 ^ 31) (hq : vb_bm LP adB q)
    (h : post 1 (m + 1, nI (c + 1), va_up a c (some q), n, LP, p)) : wpJx4a65c_add_9ea2d_fa824 post mc ms adB (m, nI c, a, n, LP, p) q := by
  intro f1 e1
  subst e1
  refine ⟨0, 0, by omega, by omega, br_f (fun z => absurd ((nI_eq (by omega) hn).mp z) (by omega)) ⟨vp_in_nI hc hn, hq, ?_⟩⟩
  intro a' ea f' ef
  rw [nI_clamp (by omega)] at ea
  rw [nI_1] at ef
  subst ea ef
  exact h
/-- the first add of all: ten places are made -/
theorem qz_add1 {post : Int32 → StJ174e4 → Prop} {mc ms : Nat} {adB : Nat → Nat} {m : Int32} {LP : List Nat} {p : Nat → Int32} {q : Nat} (hm : 1 ≤ mc) (hs : 10 ≤ ms) (hq : vb_bm LP adB q)
    (h : post 1 (m + 1, nI 1, va_up (fun _ => none) 0 (some q), 10, LP, p)) : wpJx4a65c_add_9ea2d_8607b post mc ms adB (m, 0, LP, p) q := by
  intro f1 e1
  subst e1
  refine ⟨1, 10, by omega, by omega, br_t rfl ⟨1, 10, by omega, by omega, ⟨1, 10, by omega, by omega, by decide, ?_⟩⟩⟩
  intro n en
  have e10 : n = 10 := en.trans (by decide)
  subst e10
  refine ⟨by decide, by decide, by decide, ⟨by unfold vp_in; decide, hq, ?_⟩⟩
  intro a' ea f' ef
  have ea' : a' = va_up (fun _ => none) 0 (some q) := ea.trans (by rw [show (0 : Int32).toNatClampNeg = 0 by decide])
  have ef' : f' = nI 1 := ef.trans (by decide)
  subst ea' ef'
  exact h
/-- get(i) of a list of c elements -/
theorem qz_get {post : Option Nat → Prop} {adB : Nat → Nat} {m : Int32} {c n i : Nat} {a : Nat → Option Nat} {LP : List Nat} {p : Nat → Int32} {w : Nat} (hi : i < c) (hc : c ≤ n) (hn : n < 2 ^ 31) (hw : a i = some w) (h : post (some w)) : wpJx4a65c_get_915e3_e1769 post adB (m, nI c, a, n, LP, p) (nI i) := by
  have e : a (nI i).toNatClampNeg = a i := by rw [nI_clamp (by omega)]
  exact br_f (nI_pos (by omega)) (br_t (nI_lt hi (by omega)) ⟨vp_in_nI (by omega) hn, op_s (e.trans hw) (op_s rfl h)⟩)
/-- remove(c) of a list of c + 1 elements -/
theorem qz_rem {post : Option Nat → StJ174e4 → Prop} {adB : Nat → Nat} {m : Int32} {c n : Nat} {a : Nat → Option Nat} {LP : List Nat} {p : Nat → Int32} {w : Nat} (hc : c < n) (hn : n < 2 ^ 31) (hw : a c = some w)
    (h : post (some w) (m + 1, nI c, va_up a c none, n, LP, p)) : wpJx4a65c_remove_915e3_0e105 post adB (m, nI (c + 1), a, n, LP, p) (nI c) := by
  have ec : (nI c).toNatClampNeg = c := nI_clamp (by omega)
  have e : a (nI c).toNatClampNeg = some w := by rw [ec]; exact hw
  refine br_f (nI_pos (by omega)) (br_t (nI_lt (by omega) (by omega)) ⟨vp_in_nI hc hn, op_s e ?_⟩)
  refine nm_e (nm_r (nI_pred c) (br_t ?_ ⟨vp_in_nI hc hn, nm_r (by rw [ec]) h⟩))
  rw [nI_pred]
  exact nI_le (Nat.le_refl c) (by omega)
/-- the boxes' ints f are known beforehand: one box more -/
theorem qz_rows {LP LP' : List Nat} {p p' : Nat → Int32} {ad : Nat → Nat} {a : Nat → Option Nat} {f : Nat → Int32} {c y : Nat} (h : bx_rows LP p ad a f c)
    (hk : ∀ z w, vb_bx LP p ad z w → vb_bx LP' p' ad z w) (hx : vb_bx LP' p' ad y (f c)) : bx_rows LP' p' ad (va_up a c (some y)) f (c + 1) := by
  intro k hkc
  by_cases e : k = c
  · subst e
    exact ⟨y, va_up_self _ _ _, hx⟩
  · obtain ⟨z, hz, hb⟩ := h k (by omega)
    exact ⟨z, (va_up_ne _ _ e).trans hz, hk _ _ hb⟩
/-- the pool grows: the boxes keep their ints -/
theorem qz_keep {LP LP' : List Nat} {p p' : Nat → Int32} {ad : Nat → Nat} {a : Nat → Option Nat} {f : Nat → Int32} {c : Nat} (h : bx_rows LP p ad a f c)
    (hk : ∀ z w, vb_bx LP p ad z w → vb_bx LP' p' ad z w) : bx_rows LP' p' ad a f c := by
  intro k hkc
  obtain ⟨z, hz, hb⟩ := h k hkc
  exact ⟨z, hz, hk _ _ hb⟩
/-- the last box goes -/
theorem qz_drop {LP : List Nat} {p : Nat → Int32} {ad : Nat → Nat} {a : Nat → Option Nat} {f : Nat → Int32} {c : Nat} (h : bx_rows LP p ad a f (c + 1)) : bx_rows LP p ad (va_up a c none) f c := by
  intro k hkc
  obtain ⟨z, hz, hb⟩ := h k (by omega)
  exact ⟨z, (va_up_ne _ _ (by omega)).trans hz, hb⟩
end
section
/-! xs: the list that the law makes -/
/-- what the law's xs(a, size) holds, size & 7 being n -/
def qz_f (a : Int32) (n k : Nat) : Int32 := if k + 1 = n then a else (((a.toUInt32 >>> ((3 * nI k).toUInt32 &&& Int32.toUInt32 31)).toInt32) &&& 15)
theorem qz_fl (a : Int32) {n k : Nat} (h : k + 1 = n) : qz_f a n k = a := if_pos h
theorem qz_fs (a : Int32) {n k : Nat} (h : ¬ k + 1 = n) : qz_f a n k = (((a.toUInt32 >>> ((3 * nI k).toUInt32 &&& Int32.toUInt32 31)).toInt32) &&& 15) := if_neg h
theorem qz_f15 (a : Int32) {n k : Nat} (h : ¬ k + 1 = n) : ∃ j : Nat, j < 16 ∧ qz_f a n k = nI j := by
  rw [qz_fs a h]
  exact pk_andE _ 4 (by decide)
/-- all but the last are no less than 0 -/
theorem qz_f0 (a : Int32) {n k : Nat} (h : ¬ k + 1 = n) : 0 ≤ qz_f a n k := by
  obtain ⟨j, hj, e⟩ := qz_f15 a h
  rw [e]
  exact nI_pos' (by omega)
/-- the loop, once the list has its array -/
theorem qz_xs2 {post : (St2 ⊕ St3) → Prop} {mc ms : Nat} {adB : Nat → Nat} {LP : List Nat} {p : Nat → Int32} {a : Int32} {n : Nat} (hn : n < 8) (hm : 3 ≤ mc) (hs : 14 ≤ ms)
    (h : ∀ mod ar LP' p', (∀ z w, vb_bx LP p adB z w → vb_bx LP' p' adB z w) → bx_rows LP' p' adB ar (qz_f a n) n → post (.inr (mod, nI n, ar, 10, LP', p'))) :
    ∀ (fu i kc ks : Nat) (mod : Int32) (ar : Nat → Option Nat) (LP' : List Nat) (p' : Nat → Int32), i ≤ n → n < fu + i → (i < n → kc ≤ 2 ∧ ks ≤ 13) → (∀ z w, vb_bx LP p adB z w → vb_bx LP' p' adB z w) → bx_rows LP' p' adB ar (qz_f a n) i →
      wL_xs_16 post mc ms adB fu (.inr (a, nI n, nI i, kc, ks, mod, nI i, ar, 10, LP', p')) := by
  intro fu
  induction fu with
  | zero => intro i kc ks mod ar LP' p' h1 h2; omega
  | succ fu ih =>
    intro i kc ks mod ar LP' p' h1 h2 h3 hk hr
    refine pk_le n i (fun z => ?_) (fun z => ?_)
    · have e : i = n := by omega
      subst e
      exact h mod ar LP' p' hk hr
    · obtain ⟨h4, h5⟩ := h3 z
      by_cases e : i + 1 = n
      · refine br_t (by rw [← e, nI_pred]) ?_
        refine ⟨1, 1, by omega, by omega, qz_box a (Nat.le_refl _) (Nat.le_refl _) fun y LP2 p2 hx hk2 => op_s rfl ?_⟩
        refine ⟨0, 0, by omega, by omega, qz_add (by omega) (by omega) hx.bm (nm_r (nI_1 i) ?_)⟩
        exact ih (i + 1) _ _ _ _ _ _ (by omega) (by omega) (fun t => absurd t (by omega)) (fun z w t => hk2 z w (hk z w t)) (qz_rows hr hk2 (by rw [qz_fl a e]; exact hx))
      · have ne : ¬ nI i = nI n - 1 := by
          obtain ⟨m, rfl⟩ : ∃ m, n = m + 1 := ⟨n - 1, by omega⟩
          rw [nI_pred]
          exact fun t => absurd ((nI_eq (by omega) (by omega)).mp t) (by omega)
        obtain ⟨j, hj, ej⟩ := qz_f15 a e
        have s := qz_s16 j hj
        rw [← ej, qz_fs a e] at s
        refine br_f ne ?_
        refine ⟨0, 0, by omega, by omega, qz_small s.1 s.2 fun y hx => op_s rfl ?_⟩
        refine ⟨0, 0, by omega, by omega, qz_add (by omega) (by omega) hx.bm (nm_r (nI_1 i) ?_)⟩
        exact ih (i + 1) _ _ _ _ _ _ (by omega) (by omega) (fun _ => ⟨by omega, by omega⟩) hk (qz_rows hr (fun _ _ t => t) (by rw [qz_fs a e]; exact hx))
/-- xs(a, b): the empty list, or the boxes of qz_f a n -/
theorem qz_xs {post : (St2 ⊕ St3) → Prop} {mc ms : Nat} {adB : Nat → Nat} {LP : List Nat} {p : Nat → Int32} {a b : Int32} {n : Nat} (hn : n < 8) (hb : b &&& 7 = nI n) (hm : 3 ≤ mc) (hs : 14 ≤ ms)
    (h0 : n = 0 → post (.inl (0, 0, LP, p)))
    (h : 0 < n → ∀ mod ar LP' p', (∀ z w, vb_bx LP p adB z w → vb_bx LP' p' adB z w) → bx_rows LP' p' adB ar (qz_f a n) n → post (.inr (mod, nI n, ar, 10, LP', p'))) :
    wpL_xs post mc ms adB (LP, p) a b := by
  refine ⟨by omega, by omega, nm_r hb ⟨n + 1, ?_⟩⟩
  refine pk_le n 0 (fun z => h0 (by omega)) (fun z => ?_)
  by_cases e : 0 + 1 = n
  · refine br_t (by rw [← e]; decide) ?_
    refine ⟨1, 1, by omega, by omega, qz_box a (Nat.le_refl _) (Nat.le_refl _) fun y LP2 p2 hx hk2 => op_s rfl ?_⟩
    refine ⟨1, 10, by omega, by omega, qz_add1 (Nat.le_refl _) (Nat.le_refl _) hx.bm (nm_r (nI_1 0) ?_)⟩
    exact qz_xs2 hn hm hs (h z) n 1 _ _ _ _ _ _ (by omega) (by omega) (fun t => absurd t (by omega)) hk2 (qz_rows bx_rows_0 hk2 (by rw [qz_fl a e]; exact hx))
  · have ne : ¬ nI 0 = nI n - 1 := by
      obtain ⟨m, rfl⟩ : ∃ m, n = m + 1 := ⟨n - 1, by omega⟩
      rw [nI_pred]
      exact fun t => absurd ((nI_eq (by omega) (by omega)).mp t) (by omega)
    obtain ⟨j, hj, ej⟩ := qz_f15 a e
    have s := qz_s16 j hj
    rw [← ej, qz_fs a e] at s
    refine br_f ne ?_
    refine ⟨0, 0, by omega, by omega, qz_small s.1 s.2 fun y hx => op_s rfl ?_⟩
    refine ⟨1, 10, by omega, by omega, qz_add1 (Nat.le_refl _) (Nat.le_refl _) hx.bm (nm_r (nI_1 0) ?_)⟩
    exact qz_xs2 hn hm hs (h z) n 1 _ _ _ _ _ _ (by omega) (by omega) (fun t => ⟨by omega, by omega⟩) (fun _ _ t => t) (qz_rows bx_rows_0 (fun _ _ t => t) (by rw [qz_fs a e]; exact hx))
end
section
/-! cutNegativeEnd, the class's and its twin's, and eqLists -/
/-- how many are left behind the cut -/
def qz_c (f : Nat → Int32) (n : Nat) : Nat := if 0 ≤ f (n - 1) then n else n - 1
/-- on the empty list -/
theorem qz_x0e {post : St2 → Prop} {adB : Nat → Nat} {m : Int32} {LP : List Nat} {p : Nat → Int32} (h : post (m, 0, LP, p)) : wpX0_cutNegativeEnd post adB (m, 0, LP, p) :=
  ⟨1, br_t (by decide) h⟩
theorem qz_x1e {post : St2 → Prop} {adB : Nat → Nat} {m : Int32} {LP : List Nat} {p : Nat → Int32} (h : post (m, 0, LP, p)) : wpX1_cutNegativeEnd post adB (m, 0, LP, p) :=
  ⟨1, br_t (by decide) (br_t rfl h)⟩
/-- the class's loop -/
theorem qz_x09 {post : St3 → Prop} {adB : Nat → Nat} {f : Nat → Int32} {n N : Nat} {LP : List Nat} {p : Nat → Int32} {m : Int32} {a : Nat → Option Nat} (hn : n + 1 ≤ N) (hN : N < 2 ^ 31) (hr : bx_rows LP p adB a f (n + 1)) (hf : ∀ k, k < n → 0 ≤ f k)
    (h : ∀ m' a', bx_rows LP p adB a' f (qz_c f (n + 1)) → post (m', nI (qz_c f (n + 1)), a', N, LP, p)) :
    ∀ fu i : Nat, i ≤ n → n + 2 ≤ fu + i → wX0_cutNegativeEnd_2_9 post adB (nI (n + 1)) fu (nI i) m (nI (n + 1)) a N LP p := by
  intro fu
  induction fu with
  | zero => intro i h1 h2; omega
  | succ fu ih =>
    intro i h1 h2
    obtain ⟨y, hy, hx⟩ := hr i (by omega)
    refine br_f (nI_ge (by omega) (by omega)) (qz_get (by omega) hn hN hy (op_s rfl ⟨hx.bm, f i, hx, ?_⟩))
    by_cases e : i = n
    · subst e
      obtain ⟨fu', rfl⟩ : ∃ k, fu = k + 1 := ⟨fu - 1, by omega⟩
      refine br_c (fun g => nm_r (nI_1 i) (br_t (nI_le (Nat.le_refl _) (by omega)) ?_)) (fun g => ?_)
      · have ec : qz_c f (i + 1) = i + 1 := if_pos g
        rw [ec] at h
        exact h m a hr
      · have ec : qz_c f (i + 1) = i := if_neg g
        rw [ec] at h
        refine qz_rem (by omega) hN hy (op_s rfl (nm_r (nI_1 i) (br_t (nI_le (Nat.le_refl _) (by omega)) ?_)))
        exact h _ _ (qz_drop hr)
    · exact br_t (hf i (by omega)) (nm_r (nI_1 i) (ih (i + 1) (by omega) (by omega)))
theorem qz_x0 {post : St3 → Prop} {adB : Nat → Nat} {f : Nat → Int32} {n N : Nat} {LP : List Nat} {p : Nat → Int32} {m : Int32} {a : Nat → Option Nat} (hn : n + 1 ≤ N) (hN : N < 2 ^ 31) (hr : bx_rows LP p adB a f (n + 1)) (hf : ∀ k, k < n → 0 ≤ f k)
    (h : ∀ m' a', bx_rows LP p adB a' f (qz_c f (n + 1)) → post (m', nI (qz_c f (n + 1)), a', N, LP, p)) : wpX0_cutNegativeEnd_2 post adB (m, nI (n + 1), a, N, LP, p) :=
  ⟨n + 2, qz_x09 hn hN hr hf h (n + 2) 0 (by omega) (by omega)⟩
/-- the twin's loop, behind its first turn -/
theorem qz_x14 {post : St3 → Prop} {adB : Nat → Nat} {f : Nat → Int32} {n N : Nat} {LP : List Nat} {p : Nat → Int32} {m : Int32} {a : Nat → Option Nat} (hn : n + 1 ≤ N) (hN : N < 2 ^ 31) (hr : bx_rows LP p adB a f (n + 1))
    (h : ∀ m' a', bx_rows LP p adB a' f (qz_c f (n + 1)) → post (m', nI (qz_c f (n + 1)), a', N, LP, p)) :
    ∀ fu i : Nat, i ≤ n → n + 1 ≤ fu + i → wX1_cutNegativeEnd_2_4 post adB m (nI (n + 1)) a N LP p fu (nI i) (nI (i + 1)) := by
  intro fu
  induction fu with
  | zero => intro i h1 h2; omega
  | succ fu ih =>
    intro i h1 h2
    by_cases e : i = n
    · subst e
      obtain ⟨y, hy, hx⟩ := hr i (by omega)
      have n1 : ¬ nI i = -1 := fun t => absurd (t ▸ nI_pos (n := i) (by omega)) (by decide)
      refine br_t (nI_le (Nat.le_refl _) (by omega)) (br_f n1 (qz_get (by omega) hn hN hy (op_s rfl ⟨hx.bm, f i, hx, ?_⟩)))
      refine br_c (fun g => ?_) (fun g => ?_)
      · have ec : qz_c f (i + 1) = i + 1 := if_pos g
        rw [ec] at h
        exact h m a hr
      · have ec : qz_c f (i + 1) = i := if_neg g
        rw [ec] at h
        exact qz_rem (by omega) hN hy (op_s rfl (h _ _ (qz_drop hr)))
    · exact br_f (nI_ge (by omega) (by omega)) (nm_r (nI_1 (i + 1)) (ih (i + 1) (by omega) (by omega)))
theorem qz_x1 {post : St3 → Prop} {adB : Nat → Nat} {f : Nat → Int32} {n N : Nat} {LP : List Nat} {p : Nat → Int32} {m : Int32} {a : Nat → Option Nat} (hn : n + 1 ≤ N) (hN : N < 2 ^ 31) (hr : bx_rows LP p adB a f (n + 1))
    (h : ∀ m' a', bx_rows LP p adB a' f (qz_c f (n + 1)) → post (m', nI (qz_c f (n + 1)), a', N, LP, p)) : wpX1_cutNegativeEnd_2 post adB (m, nI (n + 1), a, N, LP, p) :=
  ⟨n + 2, br_f (nI_nle (by omega) (by omega)) (nm_r (nI_1 0) (qz_x14 hn hN hr h (n + 1) 0 (by omega) (by omega)))⟩
/-- eqLists on two empty lists -/
theorem qz_eqe {post : Int32 → Prop} {adB : Nat → Nat} {m m' : Int32} {LP : List Nat} {p : Nat → Int32} (h : post 1) : wpL_eqLists post adB (m, 0, m', 0, LP, p) :=
  br_t rfl ⟨1, br_t (by decide) h⟩
/-- .. on two lists of boxes of the same ints -/
theorem qz_eq19 {post : Int32 → Prop} {adB : Nat → Nat} {f : Nat → Int32} {c N M : Nat} {LP : List Nat} {p : Nat → Int32} {m m' : Int32} {a b : Nat → Option Nat} (hcN : c ≤ N) (hN : N < 2 ^ 31) (hcM : c ≤ M) (hM : M < 2 ^ 31) (ha : bx_rows LP p adB a f c) (hb : bx_rows LP p adB b f c) (h : post 1) :
    ∀ fu i : Nat, i ≤ c → c < fu + i → wL_eqLists_4_19 post adB m (nI c) a N m' (nI c) b M LP p fu (nI i) := by
  intro fu
  induction fu with
  | zero => intro i h1 h2; omega
  | succ fu ih =>
    intro i h1 h2
    refine pk_le c i (fun _ => h) (fun z => ?_)
    obtain ⟨y, hy, hx⟩ := ha i z
    obtain ⟨w, hw, hv⟩ := hb i z
    refine qz_get z hcN hN hy (op_s rfl ⟨hx.bm, qz_get z hcM hM hw (op_s rfl ⟨hv.bm, f i, hx, f i, hv, br_t rfl ?_⟩)⟩)
    exact br_f (by decide) (nm_r (nI_1 i) (ih (i + 1) (by omega) (by omega)))
theorem qz_eq {post : Int32 → Prop} {adB : Nat → Nat} {f : Nat → Int32} {c N M : Nat} {LP : List Nat} {p : Nat → Int32} {m m' : Int32} {a b : Nat → Option Nat} (hcN : c ≤ N) (hN : N < 2 ^ 31) (hcM : c ≤ M) (hM : M < 2 ^ 31) (ha : bx_rows LP p adB a f c) (hb : bx_rows LP p adB b f c) (h : post 1) :
    wpL_eqLists_4 post adB (m, nI c, a, N, m', nI c, b, M, LP, p) :=
  br_t rfl ⟨c + 1, qz_eq19 hcN hN hcM hM ha hb h (c + 1) 0 (by omega) (by omega)⟩
end
section
/-! the law -/
theorem qz_cell {post : Int32 → Prop} {L : Nat} {xs : Nat → Int32} (k : Nat) (hL : L < 2 ^ 31) (hk : k < 2 ^ 31) (h : ∀ v, post v) : wpL_cellAt post L xs () (nI k) :=
  pk_le L k (fun _ => h _) (fun z => ⟨vp_in_nI z hL, h _⟩)
theorem qz_law {post : Int32 → St1 → Prop} {mc ms : Nat} {adB : Nat → Nat} {LP : List Nat} {p : Nat → Int32} (a b : Int32) (hm : 6 ≤ mc) (hs : 28 ≤ ms) (h : ∀ u, post 1 u) : wpL_lawOf post mc ms adB (LP, p) a b := by
  obtain ⟨n, hn, hb⟩ := pk_andE b (m := 7) 3 (by decide)
  have one : ∀ u, ((1 : Int32) = 0 → post 0 u) ∧ (¬ (1 : Int32) = 0 → post 1 u) := fun u => br_f (by decide) (h u)
  refine ⟨3, 14, by omega, by omega, qz_xs hn hb (Nat.le_refl _) (Nat.le_refl _) (fun e => ?_) (fun hp m1 a1 LP1 p1 hk1 hr1 => ?_)⟩
  · refine ⟨3, 14, by omega, by omega, qz_xs hn hb (Nat.le_refl _) (Nat.le_refl _) (fun _ => ?_) (fun hp => absurd hp (by omega))⟩
    exact qz_x0e (qz_x1e (qz_eqe (one _)))
  · refine ⟨3, 14, by omega, by omega, qz_xs hn hb (Nat.le_refl _) (Nat.le_refl _) (fun e => absurd hp (by omega)) (fun _ m2 a2 LP2 p2 hk2 hr2 => ?_)⟩
    obtain ⟨k, rfl⟩ : ∃ k, n = k + 1 := ⟨n - 1, by omega⟩
    have hc : qz_c (qz_f a (k + 1)) (k + 1) ≤ 10 := by unfold qz_c; split <;> omega
    refine qz_x0 (by omega) (by omega) (qz_keep hr1 hk2) (fun j hj => qz_f0 a (by omega)) (fun m3 a3 hr3 => ?_)
    refine qz_x1 (by omega) (by omega) hr2 (fun m4 a4 hr4 => ?_)
    exact qz_eq hc (by omega) hc (by omega) hr3 hr4 (one _)
theorem i_vc (xs : Nat → Int32) (L : Nat) (hL : L ≤ 2) : wpL_law (fun r => r = 1) L xs := by
  intro adB
  refine qz_cell 0 (by omega) (by omega) (fun v => qz_cell 1 (by omega) (by omega) (fun w => ?_))
  exact ⟨12, 192, by omega, by omega, qz_law v w (by omega) (by omega) (fun _ => rfl)⟩
end
