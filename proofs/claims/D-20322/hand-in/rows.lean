section
/-- Integer.valueOf: the caller needn't know whether the box is new -/
theorem bp_valueOf {post : Option Nat → StJd1a94 → Prop} {mc ms : Nat} {adB : Nat → Nat} {LP : List Nat} {p : Nat → Int32} (v : Int32) (hm : 1 ≤ mc) (hs : 1 ≤ ms)
    (h : ∀ y LP' p', vb_bx LP' p' adB y v → (∀ z w, vb_bx LP p adB z w → vb_bx LP' p' adB z w) → post (some y) (LP', p')) : wpJ6_valueOf_2dffe_e41c5 post mc ms adB (LP, p) v := by
  have key : wJ6_valueOf_2dffe_e41c5_23 post mc ms adB v 0 0 LP p := by
    refine ⟨by omega, by omega, fun q hq => ⟨Or.inl (List.mem_append.mpr (Or.inr (List.mem_singleton.mpr rfl))), ?_⟩⟩
    show q ∈ LP ++ [q] ∧ post (some q) (LP ++ [q], va_up (va_up p q 0) q v)
    rw [bx_uu]
    exact ⟨List.mem_append.mpr (Or.inr (List.mem_singleton.mpr rfl)), h q _ _ bx_new (fun z w hz => bx_grow hz hq)⟩
  refine ⟨fun _ => key, fun h1 => ⟨fun _ => key, fun h2 => ?_⟩⟩
  obtain ⟨j, hj, e, ev⟩ := bx_small h1 h2
  rw [e, nI_clamp (by omega)]
  exact ⟨vp_in_nI hj (by omega), h _ _ _ (Or.inr ⟨j, hj, rfl, ev⟩) (fun z w hz => hz)⟩
/-- the script's cell p, or 0: whatever it is -/
theorem bp_cell {post : Int32 → Prop} {L : Nat} {xs : Nat → Int32} {u : St0} {x : Int32} (k : Nat) (hx : x = nI k) (hk : k ≤ 2) (hL : L ≤ 3) (h : ∀ r, post r) : wpL_cellAt post L xs u x := by
  subst hx
  refine ⟨fun _ => h _, fun z => ⟨vp_in_nI ?_ (by omega), h _⟩⟩
  rcases Nat.lt_or_ge k L with g | g
  · exact g
  · exact absurd (nI_le g (by omega)) z
/-- same(p, q): two boxes of one number -/
theorem bp_same {post : Int32 → Prop} {adB : Nat → Nat} {LP : List Nat} {p : Nat → Int32} {o0 o1 : Nat} {v : Int32} (h0 : vb_bx LP p adB o0 v) (h1 : vb_bx LP p adB o1 v) (h : post 1) : wpL_same_4 post adB (LP, p) o0 o1 :=
  ⟨h0.bm, v, h0, h1.bm, v, h1, fun _ => h, fun z => absurd rfl z⟩
/-- the twin's smallerOrOnly on two boxes: a box of the smaller number -/
theorem bp_twin {post : Option Nat → St1 → Prop} {mc ms : Nat} {adB : Nat → Nat} {LP : List Nat} {p : Nat → Int32} {o0 o1 : Nat} {v w t : Int32} (hv : vb_bx LP p adB o0 v) (hw : vb_bx LP p adB o1 w) (hm : 1 ≤ mc) (hs : 1 ≤ ms) (ht : t = if w < v then w else v)
    (h : ∀ y LP' p', vb_bx LP' p' adB y t → (∀ z w, vb_bx LP p adB z w → vb_bx LP' p' adB z w) → post (some y) (LP', p')) : wpX1_smallerOrOnly_4 post mc ms adB (LP, p) o0 o1 := by
  have key : wX1_smallerOrOnly_4_46 post mc ms adB t 0 0 LP p :=
    ⟨1, 1, by omega, by omega, bp_valueOf t (Nat.le_refl _) (Nat.le_refl _) (fun y LP' p' hy hk => cm_some (h y LP' p' hy hk))⟩
  refine ⟨hv.bm, v, hv, hw.bm, w, hw, fun g => ?_, fun g => ?_⟩
  · rw [if_pos g] at ht
    subst ht
    exact key
  · rw [if_neg g] at ht
    subst ht
    exact key
end
section
/-- null, null -/
theorem bp_30 {post : Int32 → St1 → Prop} {mc ms kc ks : Nat} {adB : Nat → Nat} {LP : List Nat} {p : Nat → Int32} (hc : kc ≤ mc) (hs : ks ≤ ms) (H : ∀ u, post 1 u) : wL_lawOf_30 post mc ms adB kc ks LP p := by
  refine ⟨fun _ => ⟨0, 0, by omega, by omega, ?_⟩, (fun y e => nomatch e)⟩
  exact ⟨fun _ => ⟨rfl, H _⟩, (fun y e => nomatch e)⟩
/-- null, a box -/
theorem bp_30_2 {post : Int32 → St1 → Prop} {mc ms kc ks o : Nat} {adB : Nat → Nat} {LP : List Nat} {p : Nat → Int32} {v : Int32} (hv : vb_bx LP p adB o v) (hc : kc ≤ mc) (hs : ks ≤ ms) (H : ∀ u, post 1 u) : wL_lawOf_30_2 post mc ms adB o kc ks LP p := by
  refine ⟨(fun e => nomatch e), fun y e => ?_⟩
  cases e
  refine ⟨0, 0, by omega, by omega, (fun e => nomatch e), fun y e => ?_⟩
  cases e
  exact bp_same hv hv ⟨rfl, H _⟩
/-- a box, null -/
theorem bp_30_3 {post : Int32 → St1 → Prop} {mc ms kc ks o : Nat} {adB : Nat → Nat} {LP : List Nat} {p : Nat → Int32} {v : Int32} (hv : vb_bx LP p adB o v) (hc : kc ≤ mc) (hs : ks ≤ ms) (H : ∀ u, post 1 u) : wL_lawOf_30_3 post mc ms adB o kc ks LP p := by
  refine ⟨(fun e => nomatch e), fun y e => ?_⟩
  cases e
  refine ⟨0, 0, by omega, by omega, (fun e => nomatch e), fun y e => ?_⟩
  cases e
  exact bp_same hv hv ⟨rfl, H _⟩
/-- two boxes -/
theorem bp_30_4 {post : Int32 → St1 → Prop} {mc ms kc ks o0 o1 : Nat} {adB : Nat → Nat} {LP : List Nat} {p : Nat → Int32} {v w : Int32} (hv : vb_bx LP p adB o0 v) (hw : vb_bx LP p adB o1 w) (hc : kc + 1 ≤ mc) (hs : ks + 1 ≤ ms) (H : ∀ u, post 1 u) : wL_lawOf_30_4 post mc ms adB o0 o1 kc ks LP p := by
  refine ⟨hv.bm, v, hv, hw.bm, w, hw, fun g => ⟨(fun e => nomatch e), fun y e => ?_⟩, fun g => ⟨(fun e => nomatch e), fun y e => ?_⟩⟩
  · cases e
    refine ⟨1, 1, hc, hs, bp_twin (t := w) hv hw (Nat.le_refl _) (Nat.le_refl _) (if_pos g).symm (fun y LP' p' hy hk => ⟨(fun e => nomatch e), fun y2 e2 => ?_⟩)⟩
    cases e2
    exact bp_same (hk _ _ hw) hy ⟨rfl, H _⟩
  · cases e
    refine ⟨1, 1, hc, hs, bp_twin (t := v) hv hw (Nat.le_refl _) (Nat.le_refl _) (if_neg g).symm (fun y LP' p' hy hk => ⟨(fun e => nomatch e), fun y2 e2 => ?_⟩)⟩
    cases e2
    exact bp_same (hk _ _ hv) hy ⟨rfl, H _⟩
/-- the second argument, the first being null -/
theorem bp_14 {post : Int32 → St1 → Prop} {mc ms kc ks : Nat} {adB : Nat → Nat} {LP : List Nat} {p : Nat → Int32} {x1 x2 : Int32} (hc : kc + 1 ≤ mc) (hs : ks + 1 ≤ ms) (H : ∀ u, post 1 u) : wL_lawOf_14 post mc ms adB x1 x2 kc ks LP p := by
  refine ⟨fun _ => bp_30 (by omega) (by omega) H, fun _ => ⟨1, 1, hc, hs, bp_valueOf x1 (Nat.le_refl _) (Nat.le_refl _) (fun y LP' p' hy hk => ⟨(fun e => nomatch e), fun y2 e2 => ?_⟩)⟩⟩
  cases e2
  exact bp_30_2 hy hc hs H
/-- the second argument, the first being a box -/
theorem bp_14_2 {post : Int32 → St1 → Prop} {mc ms kc ks o : Nat} {adB : Nat → Nat} {LP : List Nat} {p : Nat → Int32} {x1 x2 v : Int32} (hv : vb_bx LP p adB o v) (hc : kc + 2 ≤ mc) (hs : ks + 2 ≤ ms) (H : ∀ u, post 1 u) : wL_lawOf_14_2 post mc ms adB x1 x2 o kc ks LP p := by
  refine ⟨fun _ => bp_30_3 hv (by omega) (by omega) H, fun _ => ⟨1, 1, by omega, by omega, bp_valueOf x1 (Nat.le_refl _) (Nat.le_refl _) (fun y LP' p' hy hk => ⟨(fun e => nomatch e), fun y2 e2 => ?_⟩)⟩⟩
  cases e2
  exact bp_30_4 (hk _ _ hv) hy (by omega) (by omega) H
/-- lawOf -/
theorem bp_lawOf {post : Int32 → St1 → Prop} {mc ms : Nat} {adB : Nat → Nat} {LP : List Nat} {p : Nat → Int32} {x0 x1 x2 : Int32} (hc : 3 ≤ mc) (hs : 3 ≤ ms) (H : ∀ u, post 1 u) : wpL_lawOf post mc ms adB (LP, p) x0 x1 x2 := by
  refine ⟨fun _ => bp_14 (by omega) (by omega) H, fun _ => ⟨1, 1, by omega, by omega, bp_valueOf x0 (Nat.le_refl _) (Nat.le_refl _) (fun y LP' p' hy hk => ⟨(fun e => nomatch e), fun y2 e2 => ?_⟩)⟩⟩
  cases e2
  exact bp_14_2 hy (by omega) (by omega) H
theorem i_vc (xs : Nat → Int32) (L : Nat) (hL : L ≤ 3) : wpL_law (fun r => r = 1) L xs := by
  intro adB
  refine bp_cell 0 rfl (by omega) hL (fun r1 => bp_cell 1 rfl (by omega) hL (fun r2 => bp_cell 2 rfl (by omega) hL (fun r3 => ⟨3, 48, by omega, by omega, ?_⟩)))
  exact bp_lawOf (by omega) (by omega) (fun u => rfl)
end
