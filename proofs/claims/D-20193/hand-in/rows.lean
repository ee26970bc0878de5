section
/-! ===== boxes and the list: one lemma a member (rows turned from the worked proof list-of-integers and from LIST-LAWS.2) ===== -/
/-- Integer.valueOf: the caller needn't know whether the box is new -/
theorem lr_valueOf {post : Option Nat → StJd1a94 → Prop} {mc ms : Nat} {adB : Nat → Nat} {LP : List Nat} {p : Nat → Int32} (v : Int32) (hm : 1 ≤ mc) (hs : 1 ≤ ms)
    (h : ∀ y LP' p', vb_bx LP' p' adB y v → (∀ z w, vb_bx LP p adB z w → vb_bx LP' p' adB z w) → post (some y) (LP', p')) : wpJ6_valueOf_2dffe_e41c5 post mc ms adB (LP, p) v := by
  have key : wJ6_valueOf_2dffe_e41c5_23 post mc ms adB v 0 0 LP p := by
    refine ⟨by omega, by omega, fun q hq => ⟨Or.inl (List.mem_append.mpr (Or.inr (List.mem_singleton.mpr rfl))), ?_⟩⟩
    show q ∈ LP ++ [q] ∧ post (some q) (LP ++ [q], va_up (va_up p q 0) q v)
    rw [bx_uu]
    exact ⟨List.mem_append.mpr (Or.inr (List.mem_singleton.mpr rfl)), h q _ _ bx_new (fun z w hz => bx_grow hz hq)⟩
  refine ⟨fun _ => key, fun h1 => ⟨fun _ => key, fun h2 => ?_⟩⟩
  obtain ⟨j, hj, e, ev⟩ := bx_small h1 h2
  rw [e, nI_clamp (by omega)]
  exact ⟨vp_in_nI hj (by omega), h _ _ _ (Or.inr ⟨j, hj, rfl, ev⟩) (fun z w hz => hz)⟩
/-- add, room is there -/
theorem lr_add {post : Int32 → StJ174e4 → Prop} {mc ms : Nat} {adB : Nat → Nat} {m : Int32} {c n : Nat} {a : Nat → Option Nat} {LP : List Nat} {p : Nat → Int32} {q : Nat} (hc : c < n) (hn : n < 2 ^ 31) (hq : vb_bm LP adB q)
    (h : post 1 (m + 1, nI (c + 1), va_up a c (some q), n, LP, p)) : wpJx4a65c_add_9ea2d_fa824 post mc ms adB (m, nI c, a, n, LP, p) q := by
  intro f1 e1
  subst e1
  refine ⟨0, 0, by omega, by omega, br_f (fun z => absurd ((nI_eq (by omega) hn).mp z) (by omega)) ⟨vp_in_nI hc hn, hq, ?_⟩⟩
  intro a' ea f' ef
  rw [nI_clamp (by omega)] at ea
  rw [nI_1] at ef
  subst ea ef
  exact h
/-- add, the first of all: ten places are made -/
theorem lr_add1 {post : Int32 → StJ174e4 → Prop} {mc ms : Nat} {adB : Nat → Nat} {m : Int32} {LP : List Nat} {p : Nat → Int32} {q : Nat} (hm : 1 ≤ mc) (hs : 10 ≤ ms) (hq : vb_bm LP adB q)
    (h : post 1 (m + 1, nI 1, va_up (fun _ => none) 0 (some q), 10, LP, p)) : wpJx4a65c_add_9ea2d_8607b post mc ms adB (m, 0, LP, p) q := by
  intro f1 e1
  subst e1
  refine ⟨1, 10, by omega, by omega, br_t rfl ⟨1, 10, by omega, by omega, ⟨1, 10, by omega, by omega, by decide, ?_⟩⟩⟩
  intro n en
  have e10 : n = 10 := en.trans (by decide)
  subst e10
  refine ⟨by decide, by decide, by decide, ⟨by unfold vp_in; decide, hq, ?_⟩⟩
  intro a' ea f' ef
  have ea' : a' = va_up (fun _ => none) 0 (some q) := ea.trans (by rw [show (0 : Int32).toNatClampNeg = 0 by decide])
  have ef' : f' = nI 1 := ef.trans (by decide)
  subst ea' ef'
  exact h
/-- get(k) and the box's int, as both loops read it -/
theorem lr_read {P : Int32 → Prop} {adB : Nat → Nat} {mod : Int32} {c n k : Nat} {a : Nat → Option Nat} {f : Nat → Int32} {LP : List Nat} {p : Nat → Int32} (hr : bx_rows LP p adB a f c) (hk : k < c) (hcn : c ≤ n) (hn : n < 2 ^ 31) (h : P (f k)) :
    wpJx4a65c_get_915e3_e1769 (fun r => (((r = none → (False)) ∧ (∀ y : Nat, r = some y → (vb_bm LP adB y ∧ (wpJ6_intValue_8abf5_25863 P adB (LP, p) y)))))) adB (mod, nI c, a, n, LP, p) (nI k) := by
  obtain ⟨y, ha, hx⟩ := hr k hk
  have hc : a (nI k).toNatClampNeg = some y := by rw [nI_clamp (by omega)]; exact ha
  refine ⟨fun z => absurd z (nI_pos (by omega)), fun _ => ⟨fun _ => ?_, fun z => absurd (nI_lt hk (by omega)) z⟩⟩
  exact ⟨vp_in_nI (by omega) hn, op_s hc (op_s rfl (op_s rfl ⟨hx.bm, f k, hx, h⟩))⟩
/-- one box more, its int the picture's own -/
theorem lr_rows {LP LP' : List Nat} {p p' : Nat → Int32} {ad : Nat → Nat} {a : Nat → Option Nat} {f : Nat → Int32} {c y : Nat} (h : bx_rows LP p ad a f c)
    (hk : ∀ z w, vb_bx LP p ad z w → vb_bx LP' p' ad z w) (hx : vb_bx LP' p' ad y (f c)) : bx_rows LP' p' ad (va_up a c (some y)) f (c + 1) := by
  have k := bx_rows_add h hk hx
  have e : upd f c (f c) = f := by
    funext j
    by_cases ej : j = c
    · rw [ej, pk_us]
    · rw [pk_un ej]
  rw [e] at k
  exact k
end
section
/-! ===== the two sums: each loop over a list that holds f's first c ints answers lr_W f c ===== -/
/-- the ints times their places -/
def lr_W (f : Nat → Int32) : Nat → Int32
  | 0 => 0
  | n + 1 => lr_W f n + f n * (nI n + 1)
/-- forward -/
theorem lr_fwd_4 {post : Int32 → Prop} {adB : Nat → Nat} {mod : Int32} {c N : Nat} {a : Nat → Option Nat} {f : Nat → Int32} {LP : List Nat} {p : Nat → Int32} (hr : bx_rows LP p adB a f c) (hcn : c ≤ N) (hn : N < 2 ^ 31)
    (h : post (lr_W f c)) : ∀ n j : Nat, j ≤ c → c < n + j → wX0_weightedSum_2_4 post adB mod (nI c) a N LP p n (lr_W f j) (nI j) := by
  intro n
  induction n with
  | zero => intro j h1 h2; omega
  | succ n ih =>
    intro j h1 h2
    by_cases hj : j = c
    · subst hj
      exact ⟨fun _ => h, fun z => absurd (nI_le (Nat.le_refl j) (by omega)) z⟩
    · refine ⟨fun z => absurd z (nI_ge (by omega) (by omega)), fun _ => lr_read hr (by omega) hcn hn ?_⟩
      intro x1 e1 x2 e2
      have e2' : x2 = nI (j + 1) := e2.trans (nI_1 j)
      subst e1 e2'
      exact ih (j + 1) (by omega) (by omega)
theorem lr_fwd {post : Int32 → Prop} {adB : Nat → Nat} {mod : Int32} {c N : Nat} {a : Nat → Option Nat} {f : Nat → Int32} {LP : List Nat} {p : Nat → Int32} (hr : bx_rows LP p adB a f c) (hcn : c ≤ N) (hn : N < 2 ^ 31)
    (h : post (lr_W f c)) : wpX0_weightedSum_2 post adB (mod, nI c, a, N, LP, p) :=
  ⟨c + 1, lr_fwd_4 hr hcn hn h (c + 1) 0 (Nat.zero_le _) (by omega)⟩
/-- one turn of the backward loop, in ints alone -/
theorem lr_step (w x1 x2 v t r : Int32) (h : (w + v * (t + 1)) + x1 + (t + 1) * x2 = r) : w + (x1 + (x2 + v)) + t * (x2 + v) = r := by
  grind
/-- backward: what is still to come, the sum so far, and the sum behind times what is still to come are the whole -/
theorem lr_bwd_13 {post : Int32 → Prop} {adB : Nat → Nat} {mod : Int32} {c N : Nat} {a : Nat → Option Nat} {f : Nat → Int32} {LP : List Nat} {p : Nat → Int32} (hr : bx_rows LP p adB a f c) (hcn : c ≤ N) (hn : N < 2 ^ 31)
    (h : post (lr_W f c)) : ∀ (j : Nat) (x1 x2 : Int32), j ≤ c → lr_W f j + x1 + nI j * x2 = lr_W f c → wX1_weightedSum_2_13 post adB mod (nI c) a N LP p (j + 1) x1 x2 (nI j - 1) := by
  intro j
  induction j with
  | zero =>
    intro x1 x2 _ e
    have e' : x1 = lr_W f c := by
      rw [← e, nI_0]
      show x1 = 0 + x1 + 0 * x2
      grind
    subst e'
    exact ⟨fun _ => h, fun z => absurd (by decide) z⟩
  | succ j ih =>
    intro x1 x2 hj e
    rw [nI_pred]
    refine ⟨fun z => absurd z (nI_pos (by omega)), fun _ => lr_read hr (by omega) hcn hn ?_⟩
    intro y2 e2 y1 e1 y3 e3
    have e3' : y3 = nI j - 1 := e3.trans (Int32.sub_eq_add_neg _ _).symm
    subst e2 e1 e3'
    rw [← nI_1] at e
    exact ih _ _ (by omega) (lr_step _ _ _ _ _ _ e)
theorem lr_bwd {post : Int32 → Prop} {adB : Nat → Nat} {mod : Int32} {c N : Nat} {a : Nat → Option Nat} {f : Nat → Int32} {LP : List Nat} {p : Nat → Int32} (hr : bx_rows LP p adB a f c) (hcn : c ≤ N) (hn : N < 2 ^ 31)
    (h : post (lr_W f c)) : wpX1_weightedSum_2 post adB (mod, nI c, a, N, LP, p) := by
  refine nm_e ⟨c + 1, lr_bwd_13 hr hcn hn h c 0 0 (Nat.le_refl c) ?_⟩
  grind
end
section
/-! ===== wide: the list holds lr_v a b 0 .. lr_v a b (c - 1) ===== -/
/-- the int at place i -/
def lr_v (x0 x1 : Int32) (i : Nat) : Int32 := if (nI i &&& 1) = 0 then x0 >>> ((4 * nI i) &&& 31) else x1 <<< ((3 * nI i) &&& 31)
/-- the states of wide's loop -/
abbrev lr_T : Type := (Int32 × Int32 × Int32 × Int32 × Nat × Nat × Int32 × Int32 × List Nat × (Nat → Int32)) ⊕ (Int32 × Int32 × Int32 × Int32 × Nat × Nat × Int32 × Int32 × (Nat → Option Nat) × Nat × List Nat × (Nat → Int32))
/-- the first turn: a box, then the array of ten -/
theorem lr_47 {post : (St2 ⊕ St3) → Prop} {mc ms : Nat} {adB : Nat → Nat} {J : lr_T → Prop} {x0 x1 x4 x5 z0 mod : Int32} {kc ks : Nat} {LP : List Nat} {p : Nat → Int32} (hk : kc + 2 ≤ mc) (hs : ks + 11 ≤ ms)
    (h : ∀ y LP' p', vb_bx LP' p' adB y z0 → (∀ z w, vb_bx LP p adB z w → vb_bx LP' p' adB z w) → J (.inr (x0, x1, x4, x5 + 1, kc + 1 + 1, ks + 1 + 10, mod + 1, nI 1, va_up (fun _ => none) 0 (some y), 10, LP', p'))) :
    wL_wide_47 post mc ms adB J x0 x1 x4 x5 z0 kc ks mod 0 LP p := by
  refine ⟨1, 1, by omega, by omega, lr_valueOf z0 (Nat.le_refl _) (Nat.le_refl _) fun y LP' p' hx hg => ⟨fun z => (by cases z), fun y2 e2 => ?_⟩⟩
  cases e2
  refine ⟨1, 10, by omega, by omega, lr_add1 (Nat.le_refl _) (Nat.le_refl _) hx.bm ?_⟩
  exact nm_e (h y LP' p' hx hg)
/-- a later turn: a box, stored where there is room -/
theorem lr_47_2 {post : (St2 ⊕ St3) → Prop} {mc ms : Nat} {adB : Nat → Nat} {J : lr_T → Prop} {x0 x1 x4 x5 z0 mod : Int32} {kc ks i n : Nat} {a : Nat → Option Nat} {LP : List Nat} {p : Nat → Int32} (hk : kc + 1 ≤ mc) (hs : ks + 1 ≤ ms) (hi : i < n) (hn : n < 2 ^ 31)
    (h : ∀ y LP' p', vb_bx LP' p' adB y z0 → (∀ z w, vb_bx LP p adB z w → vb_bx LP' p' adB z w) → J (.inr (x0, x1, x4, x5 + 1, kc + 1 + 0, ks + 1 + 0, mod + 1, nI (i + 1), va_up a i (some y), n, LP', p'))) :
    wL_wide_47_2 post mc ms adB J x0 x1 x4 x5 z0 kc ks mod (nI i) a n LP p := by
  refine ⟨1, 1, by omega, by omega, lr_valueOf z0 (Nat.le_refl _) (Nat.le_refl _) fun y LP' p' hx hg => ⟨fun z => (by cases z), fun y2 e2 => ?_⟩⟩
  cases e2
  refine ⟨0, 0, by omega, by omega, lr_add hi hn hx.bm ?_⟩
  exact nm_e (h y LP' p' hx hg)
/-- the loop, behind its first turn -/
theorem lr_17 {post : (St2 ⊕ St3) → Prop} {mc ms : Nat} {adB : Nat → Nat} {x0 x1 : Int32} {c : Nat} (hc : c < 8) (hm : 9 ≤ mc) (hs : 20 ≤ ms)
    (h : ∀ mod a LP p, bx_rows LP p adB a (lr_v x0 x1) c → post (.inr (mod, nI c, a, 10, LP, p))) :
    ∀ (n i kc ks : Nat) (mod : Int32) (a : Nat → Option Nat) (LP : List Nat) (p : Nat → Int32), i ≤ c → c < n + i → kc ≤ 2 + i → ks ≤ 13 + i → bx_rows LP p adB a (lr_v x0 x1) i →
    wL_wide_17 post mc ms adB n (.inr (x0, x1, nI c, nI i, kc, ks, mod, nI i, a, 10, LP, p)) := by
  intro n
  induction n with
  | zero => intro i kc ks mod a LP p h1 h2; omega
  | succ n ih =>
    intro i kc ks mod a LP p h1 h2 h3 h4 hr
    by_cases hi : i = c
    · subst hi
      exact ⟨fun _ => h _ _ _ _ hr, fun z => absurd (nI_le (Nat.le_refl i) (by omega)) z⟩
    · have key : ∀ z0, z0 = lr_v x0 x1 i → wL_wide_47_2 post mc ms adB (wL_wide_17 post mc ms adB n) x0 x1 (nI c) (nI i) z0 kc ks mod (nI i) a 10 LP p := by
        intro z0 ez
        subst ez
        refine lr_47_2 (by omega) (by omega) (by omega) (by omega) fun y LP' p' hx hg => ?_
        rw [nI_1]
        exact ih (i + 1) _ _ _ _ _ _ (by omega) (by omega) (by omega) (by omega) (lr_rows hr hg hx)
      exact ⟨fun z => absurd z (nI_ge (by omega) (by omega)), fun _ => ⟨fun z => key _ (if_pos z).symm, fun z => key _ (if_neg z).symm⟩⟩
/-- wide: no element: the empty list; else a list of c boxes -/
theorem lr_wide {post : (St2 ⊕ St3) → Prop} {mc ms : Nat} {adB : Nat → Nat} {LP : List Nat} {p : Nat → Int32} {x0 x1 x2 : Int32} {c : Nat} (e : x2 &&& 7 = nI c) (hc : c < 8) (hm : 9 ≤ mc) (hs : 20 ≤ ms)
    (h0 : c = 0 → post (.inl (0, 0, LP, p)))
    (h1 : ∀ mod a LP' p', bx_rows LP' p' adB a (lr_v x0 x1) c → post (.inr (mod, nI c, a, 10, LP', p'))) : wpL_wide post mc ms adB (LP, p) x0 x1 x2 := by
  refine ⟨by omega, by omega, nm_r e ⟨c + 1, ?_⟩⟩
  by_cases hz : c = 0
  · subst hz
    exact ⟨fun _ => h0 rfl, fun z => absurd (nI_le (a := 0) (b := 0) (Nat.le_refl 0) (by omega)) z⟩
  · have key : ∀ z0, z0 = lr_v x0 x1 0 → wL_wide_47 post mc ms adB (wL_wide_17 post mc ms adB c) x0 x1 (nI c) 0 z0 1 3 0 0 LP p := by
      intro z0 ez
      subst ez
      refine lr_47 (by omega) (by omega) fun y LP' p' hx hg => ?_
      rw [show (0 : Int32) + 1 = nI 1 from by decide]
      exact lr_17 hc hm hs h1 c 1 _ _ _ _ _ _ (by omega) (by omega) (by omega) (by omega) (lr_rows bx_rows_0 hg hx)
    exact ⟨fun z => absurd z (nI_nle (by omega) (by omega)), fun _ => ⟨fun z => key _ (if_pos z).symm, fun z => key _ (if_neg z).symm⟩⟩
end
section
/-! ===== the law ===== -/
theorem lr_lawOf {post : Int32 → St1 → Prop} {mc ms : Nat} {adB : Nat → Nat} {LP : List Nat} {p : Nat → Int32} {x0 x1 x2 : Int32} (hm : 18 ≤ mc) (hs : 40 ≤ ms) (h : ∀ LP' p', post 1 (LP', p')) : wpL_lawOf post mc ms adB (LP, p) x0 x1 x2 := by
  obtain ⟨c, hc, e⟩ := pk_andE x2 (m := 7) 3 (by decide)
  have hc8 : c < 8 := hc
  refine ⟨9, 20, by omega, by omega, lr_wide e hc8 (Nat.le_refl _) (Nat.le_refl _) (fun h0 => ?_) (fun mod a LP1 p1 hr => ?_)⟩
  · subst h0
    refine ⟨1, br_t (by decide) ⟨9, 20, by omega, by omega, lr_wide e hc8 (Nat.le_refl _) (Nat.le_refl _) (fun _ => ?_) (fun mod a LP2 p2 hr => ?_)⟩⟩
    · exact nm_e ⟨1, br_t (by decide) (br_t rfl (h _ _))⟩
    · exact lr_bwd hr (by omega) (by decide) (br_t rfl (h _ _))
  · refine lr_fwd hr (by omega) (by decide) ⟨9, 20, by omega, by omega, lr_wide e hc8 (Nat.le_refl _) (Nat.le_refl _) (fun h0 => ?_) (fun mod2 a2 LP2 p2 hr2 => ?_)⟩
    · subst h0
      exact nm_e ⟨1, br_t (by decide) (br_t rfl (h _ _))⟩
    · exact lr_bwd hr2 (by omega) (by decide) (br_t rfl (h _ _))
theorem lr_cell {post : Int32 → Prop} {L : Nat} {xs : Nat → Int32} {x : Int32} (k : Nat) (hL : L ≤ 3) (hk : k < 3) (e : x = nI k) (h : ∀ r, post r) : wpL_cellAt post L xs () x := by
  subst e
  exact pk_le L k (fun _ => h 0) (fun z => ⟨vp_in_nI z (by omega), h _⟩)
theorem i_vc (xs : Nat → Int32) (L : Nat) (hL : L ≤ 3) : wpL_law (fun r => r = 1) L xs := by
  intro adB
  refine lr_cell 0 hL (by decide) rfl fun r1 => lr_cell 1 hL (by decide) rfl fun r2 => lr_cell 2 hL (by decide) rfl fun r3 => ?_
  exact ⟨22, 352, by omega, by omega, lr_lawOf (by omega) (by omega) fun _ _ => rfl⟩
end
