/-! SPECS 20: a shelf's entry gets another name -/
set_option maxRecDepth 100000
def gvn (b : Bool) (o y : Nat) (r : rw_) : rw_ := if b = true ∧ r.2.1 = some o then (r.1, some y, r.2.2) else r
theorem gvn_1 (b : Bool) (o y : Nat) (r : rw_) : (gvn b o y r).1 = r.1 := by
  unfold gvn; split <;> rfl
theorem gvn_t (b : Bool) (o y : Nat) (r : rw_) : (gvn b o y r).2.2 = r.2.2 := by
  unfold gvn; split <;> rfl
def renS (σ : sg_) (i o y : Nat) : sg_ := match σ.1[i]? with
  | none => σ
  | some r => (insR ((σ.1.eraseIdx i).map (gvn r.2.1.isNone o y)) (y, r.2.1, r.2.2), σ.2)
/-- the first rows, as they are put -/
def renL (R : List rw_) (i : Nat) (g : rw_ → rw_) (a : rw_) (k : Nat) : List rw_ := if k ≤ i then (R.take k).map g else insR (((R.take k).eraseIdx i).map g) a
theorem srt_map {R : List rw_} {g : rw_ → rw_} (hg : ∀ r, (g r).1 = r.1) (h : srt R) : srt (R.map g) := by
  unfold srt at *
  rw [List.pairwise_map]
  exact h.imp (fun {a b} hab => by rw [hg, hg]; exact hab)
theorem srt_take {R : List rw_} {k : Nat} (h : srt R) : srt (R.take k) := List.Pairwise.sublist (List.take_sublist ..) h
theorem renL_mem {R : List rw_} {i k : Nat} {g : rw_ → rw_} {a x : rw_} (hg : ∀ r, (g r).1 = r.1) (hx : x ∈ renL R i g a k) : (x = a ∧ i < k) ∨ ∃ j r, j < k ∧ R[j]? = some r ∧ x = g r ∧ j ≠ i := by
  unfold renL at hx
  by_cases hk : k ≤ i
  · rw [if_pos hk] at hx
    obtain ⟨r, hr, rfl⟩ := List.mem_map.mp hx
    obtain ⟨j, hj⟩ := List.getElem?_of_mem hr
    have hl := (List.getElem?_eq_some_iff.mp hj).1
    rw [List.length_take] at hl
    rw [List.getElem?_take_of_lt (by omega)] at hj
    exact Or.inr ⟨j, r, by omega, hj, rfl, by omega⟩
  · rw [if_neg hk] at hx
    rcases mem_insR.mp hx with rfl | hx
    · exact Or.inl ⟨rfl, by omega⟩
    · obtain ⟨r, hr, rfl⟩ := List.mem_map.mp hx
      rw [List.mem_eraseIdx_iff_getElem?] at hr
      obtain ⟨j, hji, hj⟩ := hr
      have hl := (List.getElem?_eq_some_iff.mp hj).1
      rw [List.length_take] at hl
      rw [List.getElem?_take_of_lt (by omega)] at hj
      exact Or.inr ⟨j, r, by omega, hj, rfl, hji⟩
theorem renL_srt {R : List rw_} {i k : Nat} {g : rw_ → rw_} {a : rw_} (hg : ∀ r, (g r).1 = r.1) (h : srt R) (ha : ∀ r ∈ R, r.1 ≠ a.1) : srt (renL R i g a k) := by
  unfold renL
  by_cases hk : k ≤ i
  · rw [if_pos hk]; exact srt_map hg (srt_take h)
  · rw [if_neg hk]
    refine srt_insR (srt_map hg (srt_ers (srt_take h))) (fun x hx => ?_)
    obtain ⟨r, hr, rfl⟩ := List.mem_map.mp hx
    rw [hg]
    exact ha r (List.mem_of_mem_take (mem_ers hr))
theorem ers_app {α : Type} {i : Nat} {l m : List α} (h : i < l.length) : (l ++ m).eraseIdx i = l.eraseIdx i ++ m := List.eraseIdx_append_of_lt_length h m
theorem renL_step {R : List rw_} {i k : Nat} {g : rw_ → rw_} {a r : rw_} (hg : ∀ r, (g r).1 = r.1) (h : srt R) (ha : ∀ r ∈ R, r.1 ≠ a.1) (hk : R[k]? = some r) : renL R i g a (k + 1) = insR (renL R i g a k) (if k = i then a else g r) := by
  have hkl := (List.getElem?_eq_some_iff.mp hk).1
  have lt : ∀ x ∈ R.take k, x.1 < r.1 := by
    intro x hx
    obtain ⟨j, hj⟩ := List.getElem?_of_mem hx
    have hl := (List.getElem?_eq_some_iff.mp hj).1
    rw [List.length_take] at hl
    rw [List.getElem?_take_of_lt (by omega)] at hj
    exact srt_lt h hj hk (by omega)
  unfold renL
  rcases Nat.lt_trichotomy k i with q | q | q
  · rw [if_pos (by omega), if_pos (by omega), if_neg (by omega), insR_end, List.take_add_one, hk, List.map_append]
    · rfl
    · intro x hx
      obtain ⟨y, hy, rfl⟩ := List.mem_map.mp hx
      rw [hg, hg]
      exact lt y hy
  · subst q
    rw [if_neg (by omega), if_pos (Nat.le_refl _), if_pos rfl, List.take_add_one, hk]
    congr 2
    show (R.take k ++ [r]).eraseIdx k = R.take k
    have hl : (R.take k).length = k := by rw [List.length_take]; omega
    have := List.eraseIdx_append_of_length_le (l := R.take k) (k := k) (by omega) [r]
    rw [this, hl, Nat.sub_self]
    simp
  · have e1 : insR (insR (((R.take k).eraseIdx i).map g) a) (g r) = insR (insR (((R.take k).eraseIdx i).map g) (g r)) a := by
      refine insR_comm ?_
      rw [hg]
      exact (ha r (List.mem_of_getElem? hk)).symm
    have e2 : insR (((R.take k).eraseIdx i).map g) (g r) = ((R.take k).eraseIdx i).map g ++ [g r] := by
      refine insR_end (fun x hx => ?_)
      obtain ⟨y, hy, rfl⟩ := List.mem_map.mp hx
      rw [hg, hg]
      exact lt y (mem_ers hy)
    rw [if_neg (by omega), if_neg (by omega), if_neg (by omega), e1, e2, List.take_add_one, hk]
    show insR (((R.take k ++ [r]).eraseIdx i).map g) a = _
    rw [ers_app (by rw [List.length_take]; omega), List.map_append]
    rfl
section D20
variable {G : g_} {lo : Nat} {h : hp_} {s d el ar n tl ta nt : Nat} {F : List (EN × tt_)} {bl : Nat} {K : List (Nat × tt_)} {sq gb : Int32} {σ : sg_} {N : Nat}
theorem putF_ {e : EN} {t : tt_} (hw : hwf h) (D : DR G h d el ar n (F.map Prod.fst) bl) (hs : srt (F.map rwo)) (k : ent h e) (hn : ∀ r ∈ F.map rwo, r.1 ≠ en e) (hl : F.length < 24) :
    Do_ G M_X2_put [.ref d, .ref (ea e)] h (RV fun h' => ∃ (ar' n' : Nat) (F' : List (EN × tt_)), DR G h' d el ar' n' (F'.map Prod.fst) bl ∧ F'.map rwo = insR (F.map rwo) (rwo (e, t)) ∧ (∀ x ∈ F', x = (e, t) ∨ x ∈ F) ∧ WA el ar n h h' ar' n') := by
  have hp := plc_le (F.map rwo) (en e)
  rw [List.length_map] at hp
  have rw_at : ∀ (i : Nat) (y : EN), (F.map Prod.fst)[i]? = some y → ∃ r, (F.map rwo)[i]? = some r ∧ r.1 = en y := by
    intro i y hy
    rw [List.getElem?_map] at hy
    cases hx : F[i]? with
    | none => rw [hx] at hy; cases hy
    | some x =>
      rw [hx] at hy
      have hy : x.1 = y := Option.some.inj hy
      exact ⟨rwo x, by rw [List.getElem?_map, hx]; rfl, by rw [← hy]; rfl⟩
  refine (X2_put_ (p := plc (F.map rwo) (en e)) hw D k (by rw [List.length_map]; exact hl) (by rw [List.length_map]; exact hp) (fun y h0 hy => ?_) (fun i y hi hy => ?_)).rv ?_
  · obtain ⟨r, hr, he⟩ := rw_at _ _ hy
    have := plc_lt (R := F.map rwo) (x := en e) (i := plc (F.map rwo) (en e) - 1) (by omega) hr
    omega
  · obtain ⟨r, hr, he⟩ := rw_at _ _ hy
    have := plc_ge hs hi hr
    have := hn r (List.mem_of_getElem? hr)
    omega
  · rintro h' w' s' ⟨ar', n', D', W⟩
    rw [show e = Prod.fst (e, t) from rfl, ← map_ins] at D'
    refine ⟨ar', n', _, D', ?_, fun x hx => mem_ins hx, W⟩
    rw [map_ins]
    rfl
theorem X1_rename_ {f0 : Nat → Option Nat} {o y i : Nat} (hw : hwf h) (hz : hget h (gz G) = some (eR 0 f0)) (A : SHL G lo h s σ N) (Wσ : WS σ) (hlo : lo ≤ hsz h) (ho : o < 676) (hy : y < 676) (hi : look σ.1 (nI o) = some i) (hny : look σ.1 (nI y) = none) :
    Do_ G M_X1_rename [.ref s, .int (nI o), .int (nI y)] h (RV fun h' => (∃ N', SHL G lo h' s (renS σ i o y) N' ∧ hm h' ≤ hm h + 800) ∧ Fr lo h h') := by
  obtain ⟨d, el, ar, n, tl, ta, nt, F, K, A, eR_, eT, -⟩ := A
  obtain ⟨R, T, bl, sq, gb⟩ := σ
  have eR_ : R = F.map rwo := eR_
  have eT : T = K.map Prod.snd := eT
  have A : SHA G lo h s d el ar n tl ta nt F bl K sq gb := A
  have hs : srt R := Wσ.1
  have hb : R.length ≤ 4 * bl := Wσ.2.2.1
  have hb6 : bl ≤ 6 := Wσ.2.2.2.2.1
  have hi : look R (nI o) = some i := hi
  have hny : look R (nI y) = none := hny
  have eF : R.length = F.length := by rw [eR_, List.length_map]
  obtain ⟨ro, hro, hrn, -⟩ := look_some hi
  have hro1 : ro.1 = o := by
    have := (Wσ.2.1 ro (List.mem_of_getElem? hro)).1
    exact (nI_eq' (by omega) (by omega)).mp hrn
  have hnn : ∀ r ∈ R, r.1 ≠ y := fun r hr e => look_none hny r hr (by rw [e])
  have hil := (List.getElem?_eq_some_iff.mp hro).1
  have hren : renS (R, T, bl, sq, gb) i o y = (insR ((R.eraseIdx i).map (gvn ro.2.1.isNone o y)) (y, ro.2.1, ro.2.2), T, bl, sq, gb) := by
    unfold renS; simp only [hro]
  have hn150 : n ≤ 150 := by
    obtain ⟨mc, f, d2⟩ := A.2.1.2.1
    exact d2.2.2.2.1
  -- the loop
  have key : ∀ (b : Bool), ro.2.1.isNone = b → ∀ (j k : Nat) (h1 : hp_) (it d2 el2 ar2 n2 : Nat) (F2 : List (EN × tt_)), F.length - k = j → k ≤ F.length → hwf h1 → Le h h1 → IW h1 it d k F.length → hsz h ≤ it → DR G h1 d2 el2 ar2 n2 (F2.map Prod.fst) bl → F2.map rwo = renL R i (gvn ro.2.1.isNone o y) (y, ro.2.1, ro.2.2) k → (∀ x ∈ F2, (et x.1, x.2) ∈ K ∧ lo ≤ ea x.1) → hsz h ≤ d2 → hsz h ≤ el2 → (hsz h ≤ ar2 ∨ n2 = 0) → hm h1 ≤ hm h + 4 * n2 + 4 * k + 30 →
      Go_ G M_X1_rename 47 [some (.ref s), some (.int (nI o)), some (.int (nI y)), some (.int (bI b)), some (.ref d2), some (.ref it), none] [] h1 (RV fun h' => (∃ N', SHL G lo h' s (renS (R, T, bl, sq, gb) i o y) N' ∧ hm h' ≤ hm h + 800) ∧ Fr lo h h') := by
    intro b hbm j
    induction j with
    | zero =>
      intro k h1 it d2 el2 ar2 n2 F2 hj hk w1 l1 I1 it1 D1 e1 m1 c1 c2 c3 g1
      have I0 := I1
      obtain ⟨_, I⟩ := I1
      have A1 := A.le l1
      refine w_X1_rename_47 ⟨cax I, (X4_hasNext_ I0 (by omega) (by omega)).use ⟨fun _ => ⟨_, pfx A1.1 rfl rfl rfl, rfl, ?_, ?_⟩, fun c => ?_⟩⟩
      · have kp : ∀ q e, q ≠ s → hget h1 q = some e → hget (hset h1 s (eO 1 [.ref d2, .ref tl, .int sq, .int gb])) q = some e := fun q e hq z => by rw [hset_ne _ _ hq]; exact z
        have S1 := A1.1
        obtain ⟨a1, a2, ⟨mt, ft, a3⟩, a4, a5, b1, b2, b3, b4, b5, b6, b7, b8, b9⟩ := A1
        obtain ⟨e1d, ⟨mc, f, e2d⟩, e3d, e4d, e5d⟩ := D1
        have hn2 : n2 ≤ 150 := e2d.2.2.2.1
        have htl : tl < hsz h := by
          obtain ⟨mt, ft, a3⟩ := A.2.2.1
          exact hlt hw a3.1
        have hta : ta < hsz h := by
          obtain ⟨mt, ft, a3⟩ := A.2.2.1
          exact hlt hw a3.2.1
        rw [hren]
        refine ⟨n2 + nt, ⟨d2, el2, ar2, n2, tl, ta, nt, F2, K, ⟨hset_at _ _ _, ⟨kp _ _ (hgn e1d S1 (by simp)) e1d, ⟨mc, f, kp _ _ (hgn e2d.1 S1 (by simp)) e2d.1, kp _ _ (hgn e2d.2.1 S1 (by simp)) e2d.2.1, e2d.2.2⟩, fun e he => ⟨kp _ _ (Ne.symm ((e3d e he).neO S1 (by omega))) (e3d e he).1, (e3d e he).2⟩, e4d, e5d⟩, ⟨mt, ft, kp _ _ (hgn a3.1 S1 (by simp)) a3.1, kp _ _ (hgn a3.2.1 S1 (by simp)) a3.2.1, a3.2.2⟩, fun k hk => ?_, fun x hx => (m1 x hx).1, b1, by omega, by omega, ?_, b5, b6, by omega, ?_, fun x hx => (m1 x hx).2⟩, ?_, eT, rfl⟩, ?_⟩
        · have := a4 k hk
          unfold txt at this
          exact kp _ _ (hgn this S1 (by simp)) this
        · rcases c3 with q | q
          · left; omega
          · right; exact q
        · rcases c3 with q | q
          · left; omega
          · right; left; exact q
        · show insR _ _ = _
          rw [e1]
          unfold renL
          rw [if_neg (by omega), List.take_of_length_le (by omega)]
        · rw [hm_set]; omega
      · refine (l1.fr lo).trans (Fr.set A.2.2.2.2.2.1)
      · rw [decide_eq_false (by omega)] at c
        exact absurd rfl c
    | succ j ih =>
      intro k h1 it d2 el2 ar2 n2 F2 hj hk w1 l1 I1 it1 D1 e1 m1 c1 c2 c3 g1
      have hx : F[k]? = some F[k] := List.getElem?_eq_getElem (by omega)
      have hxR : R[k]? = some (rwo F[k]) := by rw [eR_, List.getElem?_map, hx]; rfl
      have hxE : (F.map Prod.fst)[k]? = some F[k].1 := by rw [List.getElem?_map, hx]; rfl
      have hxm := List.mem_of_getElem? hx
      have I0 := I1
      obtain ⟨_, I⟩ := I1
      have A1 := A.le l1
      refine w_X1_rename_47 ⟨cax I, (X4_hasNext_ I0 (by omega) (by omega)).use ⟨fun c => ?_, fun _ => ⟨cax I, (X4_next_ A1.2.1 I0 hxE).rn ?_⟩⟩⟩
      · rw [decide_eq_true (by omega)] at c
        exact absurd c (by decide)
      · rintro _ h2 w2 s2 ⟨rfl, J, m2⟩
        have l2 : Le h h2 := m2.le hw l1 it1
        have A2 := A.le l2
        have ke : ent h2 F[k].1 := A2.2.1.2.2.1 F[k].1 (List.mem_map_of_mem hxm)
        obtain ⟨c, hc1, hc2⟩ := ke.cls
        have D2 : DR G h2 d2 el2 ar2 n2 (F2.map Prod.fst) bl := by
          obtain ⟨e1d, ⟨mc, f, e2d⟩, e3d, e4d⟩ := D1
          refine ⟨by rw [m2.1 _ (hgn e1d I (by simp))]; exact e1d, ⟨mc, f, e2d.kept (m2.1 _ (hgn e2d.1 I (by simp))) (m2.1 _ (hgn e2d.2.1 I (by simp)))⟩, fun e he => ⟨?_, (e3d e he).2⟩, e4d⟩
          rw [m2.1 _ (Ne.symm ((e3d e he).neO I (by omega)))]
          exact (e3d e he).1
        have hname : ∀ r ∈ F2.map rwo, r.1 ≠ (if k = i then y else en F[k].1) := by
          intro r hr
          rw [e1] at hr
          rcases renL_mem (gvn_1 _ _ _) hr with ⟨q1, q2⟩ | ⟨j2, r2, q1, q2, q3, q4⟩
          · rw [q1, if_neg (by omega)]
            intro e
            have e : y = (rwo F[k]).1 := e
            exact hnn _ (List.mem_of_getElem? hxR) e.symm
          · rw [q3, gvn_1]
            by_cases hki : k = i
            · rw [if_pos hki]; exact hnn r2 (List.mem_of_getElem? q2)
            · rw [if_neg hki]
              have := srt_lt hs q2 hxR q1
              intro e
              have e : r2.1 = (rwo F[k]).1 := e
              omega
        have hlen2 : F2.length ≤ k := by
          have := congrArg List.length e1
          rw [List.length_map] at this
          unfold renL at this
          by_cases hki : k ≤ i
          · rw [if_pos hki, List.length_map, List.length_take] at this; omega
          · rw [if_neg hki, insR_len, List.length_map, List.length_eraseIdx, List.length_take, if_pos (by omega)] at this; omega
        have hsF2 : srt (F2.map rwo) := by rw [e1]; exact renL_srt (gvn_1 _ _ _) hs hnn
        -- once the entry that is to be put is there
        have put : ∀ (h8 : hp_) (e : EN), hwf h8 → Le h2 h8 → hm h8 ≤ hm h2 + 4 → ent h8 e → lo ≤ ea e → et e = et F[k].1 → rwo (e, F[k].2) = (if k = i then (y, ro.2.1, ro.2.2) else gvn ro.2.1.isNone o y (rwo F[k])) →
            cls_at h8 d2 = some 2 ∧ Do_ G M_X2_put [.ref d2, .ref (ea e)] h8 (RV fun h9 => Go_ G M_X1_rename 47 [some (.ref s), some (.int (nI o)), some (.int (nI y)), some (.int (bI b)), some (.ref d2), some (.ref it), none] [] h9 (RV fun h' => (∃ N', SHL G lo h' s (renS (R, T, bl, sq, gb) i o y) N' ∧ hm h' ≤ hm h + 800) ∧ Fr lo h h')) := by
          intro h8 e w8 l8 m8 k8 lo8 t8 r8
          have D8 := D2.le l8
          have hen : en e = (if k = i then y else en F[k].1) := by
            have : (rwo (e, F[k].2)).1 = en e := rfl
            rw [← this, r8]
            by_cases hki : k = i
            · rw [if_pos hki, if_pos hki]
            · rw [if_neg hki, if_neg hki, gvn_1]; rfl
          refine ⟨cax D8.1, (putF_ (e := e) (t := F[k].2) w8 D8 hsF2 k8 (by rw [hen]; exact hname) (by omega)).rv ?_⟩
          rintro h9 w9 s9 ⟨ar', n', F', D9, f1, f2, W⟩
          have k9 : KL el2 ar2 n2 h8 h9 := W.1
          obtain ⟨mc, f, al8⟩ := D8.2.1
          have l9 : Le h h9 := KL.le hw (l2.trans l8) c2 c3 k9
          obtain ⟨_, J⟩ := J
          have J8 := l8 _ _ J
          refine ih (k + 1) h9 it d2 el2 ar' n' F' (by omega) (by omega) w9 l9 ⟨_, k9 _ _ (hgn J8 al8.1 (by simp)) (Or.inl (hgn J8 al8.2.1 (by simp))) J8⟩ it1 D9 ?_ ?_ c1 c2 ?_ ?_
          · rw [f1, e1, r8, renL_step (gvn_1 _ _ _) hs hnn hxR]
          · intro x hx
            rcases f2 x hx with rfl | hx
            · refine ⟨?_, lo8⟩
              show (et e, F[k].2) ∈ K
              rw [t8]
              exact A.2.2.2.2.1 _ hxm
            · exact m1 x hx
          · rcases W.2.1 with ⟨q1, q2, q3⟩ | q
            · rw [q1]; exact Or.inl (c3.resolve_right q3)
            · left
              have := hlt w8 D8.1
              omega
          · have := W.2.2
            have := m2.2
            omega
        have hloe : lo ≤ ea F[k].1 := A.2.2.2.2.2.2.2.2.2.2.2.2.2 _ hxm
        have hs2 : lo ≤ hsz h2 := by
          have := hlt w2 (l2 _ _ A.1)
          have := hlt hw A.1
          have h3 := A.2.2.2.2.2.1
          rcases J with ⟨_, J⟩
          have := hlt w2 J
          omega
        -- an entry behind
        have beh : b = true ∨ k = i → pck [(5, M_X5_behind), (6, M_X6_behind)] [.ref (ea F[k].1), .int (nI o), .int (nI y)] h2 (fun m' => Do_ G m' [.ref (ea F[k].1), .int (nI o), .int (nI y)] h2 (RN fun a7 h8 => (cls_at h8 d2 = some 2 ∧ Do_ G M_X2_put [.ref d2, .ref a7] h8 (RV fun h9 => Go_ G M_X1_rename 47 [some (.ref s), some (.int (nI o)), some (.int (nI y)), some (.int (bI b)), some (.ref d2), some (.ref it), none] [] h9 (RV fun h' => (∃ N', SHL G lo h' s (renS (R, T, bl, sq, gb) i o y) N' ∧ hm h' ≤ hm h + 800) ∧ Fr lo h h')))) ) := by
          intro hbk
          refine behind_ w2 ke (by omega) hy (fun a h8 ha hh ke8 => ?_)
          have l8 : Le h2 h8 ∧ hm h8 ≤ hm h2 + 4 ∧ hwf h8 := by
            rcases hh with rfl | ⟨e', z, hz3, rfl⟩
            · exact ⟨Le.rfl, Nat.le_add_right _ _, w2⟩
            · exact ⟨Le.new w2 _ _, by rw [hm_new]; omega, hwf_new w2 _ _⟩
          rw [ha]
          refine put h8 _ l8.2.2 l8.1 l8.2.1 ke8 ?_ ?_ ?_
          · unfold bhd
            split
            · exact hs2
            · split
              · exact hs2
              · exact hloe
          · unfold bhd
            split
            · rfl
            · split <;> rfl
          · by_cases hki : k = i
            · have h1 : rwo F[k] = ro := by
                subst hki
                rw [hro] at hxR
                exact (Option.some.inj hxR).symm
              have h2 : en F[k].1 = o := by
                have : (rwo F[k]).1 = o := by rw [h1, hro1]
                exact this
              rw [if_pos hki, ← h1]
              unfold bhd
              rw [if_pos h2]
              rfl
            · have h2 : en F[k].1 ≠ o := by
                intro e
                have e : (rwo F[k]).1 = ro.1 := by rw [hro1]; exact e
                exact hki (srt_inj hs hxR hro e)
              rw [if_neg hki]
              unfold bhd
              rw [if_neg h2]
              have hbt : b = true := hbk.resolve_right hki
              rw [hbm, hbt]
              by_cases hg : eg F[k].1 = some o
              · rw [if_pos hg]
                unfold gvn
                rw [if_pos ⟨rfl, hg⟩]
                rfl
              · rw [if_neg hg]
                unfold gvn
                rw [if_neg (fun q => hg q.2)]
        refine ⟨c, hc1, hc2, fun cb => beh (Or.inl ((bI_ne0 _).mp cb)), fun cb => ⟨_, ke.name, fun cn => ?_, fun cn => ?_⟩⟩
        · have hbf : b = false := (bI_0 _).mp (Classical.not_not.mp cb)
          have hki : ¬ k = i := by
            intro e
            subst e
            rw [hro] at hxR
            have := Option.some.inj hxR
            have h9 : en F[k].1 = o := by
              have h8 : (rwo F[k]).1 = o := by rw [← this, hro1]
              exact h8
            exact cn (by rw [h9])
          have hgv : gvn ro.2.1.isNone o y (rwo F[k]) = rwo F[k] := by
            unfold gvn
            rw [if_neg]
            rintro ⟨q, -⟩
            rw [hbm, hbf] at q
            cases q
          refine put h2 F[k].1 w2 Le.rfl (Nat.le_add_right _ _) ke hloe rfl ?_
          rw [if_neg hki]
          exact hgv.symm
        · refine beh (Or.inr ?_)
          have h1 := ke.2.1
          have h2 : en F[k].1 = o := (nI_eq' (by omega) (by omega)).mp (Classical.not_not.mp cn)
          have e : (rwo F[k]).1 = ro.1 := by rw [hro1]; exact h2
          exact srt_inj hs hxR hro e
  -- the new directory
  have start : ∀ (b : Bool), ro.2.1.isNone = b → ∀ h4, hwf h4 → Le h h4 → hm h4 ≤ hm h + 5 → hsz h ≤ hsz h4 →
      (cls_at (hnew h4 (eO 2 [.null, .int 0]) 2) (hsz h4) = some 2 ∧ Do_ G M_X2_init [.ref (hsz h4)] (hnew h4 (eO 2 [.null, .int 0]) 2) (RV fun h5 => ∃ a6, gf fd_X1_directory h5 s = some (.ref a6) ∧ ∃ x7, gf fd_X2_blocks h5 a6 = some (.int x7) ∧ ∃ h8, pf fd_X2_blocks h5 (hsz h4) (.int x7) = some h8 ∧ ∃ a9, gf fd_X1_directory h8 s = some (.ref a9) ∧ (cls_at h8 a9 = some 2 ∧ Do_ G M_X2_iterator [.ref a9] h8 (RN fun a10 h11 => Go_ G M_X1_rename 47 [some (.ref s), some (.int (nI o)), some (.int (nI y)), some (.int (bI b)), some (.ref (hsz h4)), some (.ref a10), none] [] h11 (RV fun h' => (∃ N', SHL G lo h' s (renS (R, T, bl, sq, gb) i o y) N' ∧ hm h' ≤ hm h + 800) ∧ Fr lo h h'))))) := by
    intro b hbm h4 w4 l4 m4 s4
    refine ⟨cax (hnew_at _ _ _), (X2_init_ (hwf_new w4 _ _) (hnew_old w4 (l4 _ _ hz)) (hnew_at _ _ _)).rv ?_⟩
    rintro h5 w5 s5 ⟨D5, k5, m5⟩
    rw [hm_new] at m5
    have z4 : hsz (hnew h4 (eO 2 [.null, .int 0]) 2) = hsz h4 + 1 := hsz_new _ _ _
    rw [z4] at D5 s5
    have l5 : Le h h5 := fun q e z => k5 _ _ (by have := hlt w4 (l4 _ _ z); omega) (hnew_old w4 (l4 _ _ z))
    have A5 := A.le l5
    have l8 : Le h (hset h5 (hsz h4) (eO 2 [.ref (hsz h4 + 1), .int (nI bl)])) := fun q e z => by
      rw [hset_ne _ _ (by have := hlt hw z; omega)]
      exact l5 _ _ z
    have w8 : hwf (hset h5 (hsz h4) (eO 2 [.ref (hsz h4 + 1), .int (nI bl)])) := hwf_set w5 _ (by omega)
    have m8 : hm (hset h5 (hsz h4) (eO 2 [.ref (hsz h4 + 1), .int (nI bl)])) = hm h5 := hm_set _ _ _
    have z8 : hsz (hset h5 (hsz h4) (eO 2 [.ref (hsz h4 + 1), .int (nI bl)])) = hsz h5 := hsz_set _ _ _
    have D8 : DR G (hset h5 (hsz h4) (eO 2 [.ref (hsz h4 + 1), .int (nI bl)])) (hsz h4) (hsz h4 + 1) (gz G) 0 (([] : List (EN × tt_)).map Prod.fst) bl := by
      obtain ⟨d1, ⟨mc, f, d2⟩, d3, d4, d5⟩ := D5
      exact ⟨hset_at _ _ _, ⟨mc, f, d2.kept (hset_ne _ _ (by omega)) (hset_ne _ _ (hgn d2.2.1 d1 (by simp)))⟩, fun e he => by simp at he, by simp, hb6⟩
    refine ⟨_, gfx A5.1 rfl rfl, _, gfx A5.2.1.1 rfl rfl, _, pfx D5.1 rfl rfl rfl, ?_⟩
    rw [show hset h5 (hsz h4) (eO 2 ([Value.ref (hsz h4 + 1), Value.int (nI 2)].set 1 (Value.int (nI bl)))) = hset h5 (hsz h4) (eO 2 [.ref (hsz h4 + 1), .int (nI bl)]) from rfl]
    generalize hset h5 (hsz h4) (eO 2 [.ref (hsz h4 + 1), .int (nI bl)]) = h8 at *
    have A8 := A.le l8
    refine ⟨_, gfx A8.1 rfl rfl, cax A8.2.1.1, (X2_iterator_ w8 A8.2.1).rn ?_⟩
    rintro _ h11 w11 s11 ⟨rfl, I11, l11, m11⟩
    rw [List.length_map] at I11
    exact key b hbm F.length 0 h11 (hsz h8) (hsz h4) (hsz h4 + 1) (gz G) 0 [] rfl (Nat.zero_le _) w11 (l8.trans l11) I11 (by omega) (D8.le l11) (by unfold renL; rw [if_pos (Nat.zero_le _)]; rfl) (fun x hx => by simp at hx) (by omega) (by omega) (Or.inr rfl) (by omega)
  refine e_X1_rename ⟨_, gfx A.1 rfl rfl, cax A.2.1.1, (X2_member_ hw A.2.1).ro ?_ ?_⟩
  · rintro h4 w4 s4 ⟨f1, l4, m4⟩
    refine start false ?_ h4 w4 l4 m4 s4
    rw [eR_] at hi
    obtain ⟨z, hz2, -⟩ := look_F hi
    have h1 := f1 _ (fnd_look hi hz2)
    have h2 : R[i]? = some (rwo z) := by rw [eR_, List.getElem?_map, hz2]; rfl
    rw [hro] at h2
    rw [Option.some.inj h2]
    show (eg z.1).isNone = false
    cases hq : eg z.1 with
    | none => rw [hq] at h1; cases h1
    | some _ => rfl
  · rintro _ h3 w3 s3 ⟨e, f1, hg, rfl, l3, m3⟩
    refine start true ?_ h3 w3 l3 m3 s3
    obtain ⟨j, z, z1, z2, z3⟩ := fnd_some f1
    rw [← eR_, hi] at z3
    cases z3
    have h2 : R[i]? = some (rwo z) := by rw [eR_, List.getElem?_map, z1]; rfl
    rw [hro] at h2
    rw [Option.some.inj h2]
    show (eg z.1).isNone = true
    rw [z2, hg]; rfl
end D20
