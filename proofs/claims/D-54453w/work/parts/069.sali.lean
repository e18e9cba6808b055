/-! SPECS 19: replacings, takings, aliases -/
set_option maxRecDepth 100000
def repS (σ : sg_) (x : Int32) (l m : Nat) : Int32 × sg_ := match look σ.1 x with
  | none => (-1, σ)
  | some i => match σ.1[i]? with
    | none => (-1, σ)
    | some r => if 100 < tsum σ.2.1 + l then (-3, σ) else (nI (tsum σ.2.1), (σ.1.set i (r.1, r.2.1, (tsum σ.2.1, l, m)), σ.2.1 ++ [(tsum σ.2.1, l, m)], σ.2.2))
section D19
variable {G : g_} {lo : Nat} {h : hp_} {s d el ar n tl ta nt : Nat} {F : List (EN × tt_)} {bl : Nat} {K : List (Nat × tt_)} {sq gb : Int32} {σ : sg_} {N : Nat}
theorem pf_text {e : EN} {v : Nat} (k : ent h e) : pf fd_X5_text h (ea e) (.ref v) = some (hset h (ea e) (ecell (en e) (eg e) v)) := by
  obtain ⟨a, nm, g, t⟩ := e
  cases g with
  | none => exact pfx k.1 rfl rfl rfl
  | some x => exact pfx k.1 rfl rfl rfl
theorem ent.ne {e e' : EN} (k : ent h e) (k' : ent h e') (hn : en e ≠ en e') : ea e ≠ ea e' := by
  intro q
  have h1 := k.name
  rw [q, k'.name] at h1
  have h1 : nI (en e') = nI (en e) := by simpa using h1
  have := k.2.1
  have := k'.2.1
  exact hn ((nI_eq' (by omega) (by omega)).mp h1).symm
theorem ent.neO {e : EN} (k : ent h e) {a c : Nat} {fs : List Value} (z : hget h a = some (eO c fs)) (hc : c ≠ 5 ∧ c ≠ 6) : a ≠ ea e := by
  obtain ⟨x, nm, g, t⟩ := e
  obtain ⟨h5, h6⟩ := hc
  cases g with
  | none => exact hgn z k.1 (by simp [ecell, h5])
  | some y => exact hgn z k.1 (by simp [ecell, h6])
theorem ent.neR {e : EN} (k : ent h e) {a n : Nat} {f : Nat → Option Nat} (z : hget h a = some (eR n f)) : a ≠ ea e := by
  obtain ⟨x, nm, g, t⟩ := e
  cases g with
  | none => exact hgn z k.1 (by simp [ecell])
  | some y => exact hgn z k.1 (by simp [ecell])
/-- an entry's text was written -/
theorem SHA.re {i v : Nat} {x : EN × tt_} {t' : tt_} (A : SHA G lo h s d el ar n tl ta nt F bl K sq gb) (hs : srt (F.map rwo)) (hi : F[i]? = some x) (hK : (v, t') ∈ K) :
    SHA G lo (hset h (ea x.1) (ecell (en x.1) (eg x.1) v)) s d el ar n tl ta nt (F.set i ((ea x.1, en x.1, eg x.1, v), t')) bl K sq gb := by
  obtain ⟨a1, a2, ⟨mt, ft, a3⟩, a4, a5, b1, b2, b3, b4, b5, b6, b7, b8, b9⟩ := A
  obtain ⟨d1, ⟨mc, f, d2⟩, d3, d4, d5⟩ := a2
  have hxm := List.mem_of_getElem? hi
  have kx : ent h x.1 := d3 x.1 (List.mem_map_of_mem hxm)
  have hil := (List.getElem?_eq_some_iff.mp hi).1
  have kp : ∀ q e, q ≠ ea x.1 → hget h q = some e → hget (hset h (ea x.1) (ecell (en x.1) (eg x.1) v)) q = some e := fun q e hq z => by rw [hset_ne _ _ hq]; exact z
  have mem : ∀ y ∈ F.set i ((ea x.1, en x.1, eg x.1, v), t'), y = ((ea x.1, en x.1, eg x.1, v), t') ∨ (y ∈ F ∧ en y.1 ≠ en x.1) := by
    intro y hy
    obtain ⟨j, hj⟩ := List.getElem?_of_mem hy
    rw [List.getElem?_set] at hj
    by_cases hij : i = j
    · rw [if_pos hij, if_pos hil] at hj
      exact Or.inl (Option.some.inj hj).symm
    · rw [if_neg hij] at hj
      refine Or.inr ⟨List.mem_of_getElem? hj, fun e => hij ?_⟩
      exact (srt_inj hs (by rw [List.getElem?_map, hj]; rfl) (by rw [List.getElem?_map, hi]; rfl) e).symm
  have hmap : ((F.set i ((ea x.1, en x.1, eg x.1, v), t')).map Prod.fst).map ea = (F.map Prod.fst).map ea := by
    rw [List.map_set, List.map_set]
    apply List.ext_getElem?
    intro j
    rw [List.getElem?_set]
    by_cases hij : i = j
    · subst hij
      rw [if_pos rfl, if_pos (by rw [List.length_map, List.length_map]; exact hil), List.getElem?_map, List.getElem?_map, hi]
      rfl
    · rw [if_neg hij]
  refine ⟨kp _ _ (kx.neO a1 (by omega)) a1, ⟨kp _ _ (kx.neO d1 (by omega)) d1, ⟨mc, f, ?_⟩, fun e he => ?_, by rw [List.length_map, List.length_set]; rw [List.length_map] at d4; exact d4, d5⟩, ⟨mt, ft, kp _ _ (kx.neO a3.1 (by omega)) a3.1, kp _ _ (kx.neR a3.2.1) a3.2.1, a3.2.2⟩, fun k hk => ?_, fun y hy => ?_, b1, b2, b3, b4, b5, b6, b7, b8, fun y hy => ?_⟩
  · rw [hmap]
    exact ⟨kp _ _ (kx.neO d2.1 (by omega)) d2.1, kp _ _ (kx.neR d2.2.1) d2.2.1, d2.2.2⟩
  · obtain ⟨y, hy, rfl⟩ := List.mem_map.mp he
    rcases mem y hy with rfl | ⟨h1, h2⟩
    · exact ⟨hset_at _ _ _, kx.2⟩
    · have ky : ent h y.1 := d3 y.1 (List.mem_map_of_mem h1)
      exact ⟨kp _ _ (ky.ne kx h2) ky.1, ky.2⟩
  · have := a4 k hk
    unfold txt at this
    exact kp _ _ (kx.neO this (by omega)) this
  · rcases mem y hy with rfl | ⟨h1, h2⟩
    · exact hK
    · exact a5 y h1
  · rcases mem y hy with rfl | ⟨h1, h2⟩
    · exact b9 x hxm
    · exact b9 y h1
theorem X1_replace_ {x : Int32} {l m i : Nat} (hw : hwf h) (A : SHL G lo h s σ N) (Wσ : WS σ) (hlo : lo ≤ hsz h) (hx : look σ.1 x = some i) (hl : 1 ≤ l ∧ l ≤ 40) (hm9 : m ≤ 9999) :
    Do_ G M_X1_replace [.ref s, .int x, .int (nI l), .int (nI m)] h (RI fun y h' => y = (repS σ x l m).1 ∧ (∃ N', SHL G lo h' s (repS σ x l m).2 N' ∧ hm h' + 4 * N ≤ hm h + 4 * N' + 30) ∧ Fr lo h h') := by
  obtain ⟨d, el, ar, n, tl, ta, nt, F, K, A, eR_, eT, rfl⟩ := A
  obtain ⟨R, T, bl, sq, gb⟩ := σ
  have eR_ : R = F.map rwo := eR_
  have eT : T = K.map Prod.snd := eT
  have A : SHA G lo h s d el ar n tl ta nt F bl K sq gb := A
  have hc : chn 0 T := Wσ.2.2.2.2.2.1
  have ht : tsum T ≤ 100 := Wσ.2.2.2.2.2.2
  have hs : srt R := Wσ.1
  have hx : look R x = some i := hx
  obtain ⟨r, hr, hrx, hrf⟩ := look_some hx
  have hF : ∃ z, F[i]? = some z ∧ rwo z = r := by
    rw [eR_, List.getElem?_map] at hr
    cases hz : F[i]? with
    | none => rw [hz] at hr; cases hr
    | some z => rw [hz] at hr; exact ⟨z, rfl, Option.some.inj hr⟩
  obtain ⟨z, hz, hzr⟩ := hF
  refine e_X1_replace ⟨cax A.1, (X1_fits_ (l := l) A (by rw [← eT]; exact hc) (by rw [← eT]; exact ht) hl.2).use ?_⟩
  rw [← eT]
  refine ⟨fun c => ⟨_, gfx A.1 rfl rfl, cax A.2.1.1, (X2_find_ hw A.2.1).ro ?_ ?_⟩, fun c => ?_⟩
  · rintro h6 w6 s6 ⟨f1, -⟩
    have := fnd_none f1
    rw [← eR_, hx] at this
    cases this
  · rintro _ h5 w5 s5 ⟨e, f1, rfl, l5, m5⟩
    have hfit : tsum T + l ≤ 100 := of_decide_eq_true ((bI_ne0 _).mp c)
    have hre : repS (R, T, bl, sq, gb) x l m = (nI (tsum T), (R.set i (r.1, r.2.1, (tsum T, l, m)), T ++ [(tsum T, l, m)], bl, sq, gb)) := by
      unfold repS
      simp only [hx, hr, if_neg (show ¬ 100 < tsum T + l by omega)]
    rw [fnd_look (by rw [← eR_]; exact hx) hz] at f1
    have f1 := Option.some.inj f1
    subst f1
    have A5 := A.le l5
    refine ⟨cax A5.1, (X1_lay_ (l := l) (m := m) w5 A5 (by omega) (by rw [← eT]; exact hc) (by rw [← eT]; exact hfit)).rn ?_⟩
    rintro _ h10 w10 s10 ⟨rfl, ta', nt', A10, k10, m10⟩
    have k10e : ent h10 z.1 := A10.2.1.2.2.1 z.1 (List.mem_map_of_mem (List.mem_of_getElem? hz))
    have A11 := A10.re (v := hsz h5) (t' := (tsum T, l, m)) (by rw [← eR_]; exact hs) hz (by rw [← eT]; simp)
    have k11 : ent (hset h10 (ea z.1) (ecell (en z.1) (eg z.1) (hsz h5))) (ea z.1, en z.1, eg z.1, hsz h5) := ⟨hset_at _ _ _, k10e.2⟩
    have t11 : txt (hset h10 (ea z.1) (ecell (en z.1) (eg z.1) (hsz h5))) (hsz h5) (tsum T) l m := A11.2.2.2.1 (hsz h5, (tsum T, l, m)) (by rw [← eT]; simp)
    refine ⟨_, pf_text k10e, _, k11.text, _, gfx t11 rfl rfl, _, rfl, by rw [hre], ?_, ?_⟩
    · rw [hre]
      refine ⟨n + nt', ⟨d, el, ar, n, tl, ta', nt', _, _, A11, ?_, ?_, rfl⟩, ?_⟩
      · show R.set i _ = _
        rw [List.map_set, ← eR_, ← hzr]
        rfl
      · show T ++ [(tsum T, l, m)] = _
        rw [List.map_append, ← eT]; rfl
      · rw [hm_set]; omega
    · refine ((l5.fr lo).trans (A5.klft k10)).trans (Fr.set ?_)
      exact A.2.2.2.2.2.2.2.2.2.2.2.2.2 z (List.mem_of_getElem? hz)
  · have hfit : ¬ tsum T + l ≤ 100 := of_decide_eq_false ((bI_0 _).mp (Classical.not_not.mp c))
    have hre : repS (R, T, bl, sq, gb) x l m = (-3, (R, T, bl, sq, gb)) := by
      unfold repS
      simp only [hx, hr, if_pos (show 100 < tsum T + l by omega)]
    refine ⟨_, rfl, by rw [hre], ?_, Fr.rfl⟩
    rw [hre]
    exact ⟨n + nt, ⟨d, el, ar, n, tl, ta, nt, F, K, A, eR_, eT, rfl⟩, by omega⟩
theorem look_F {x : Int32} {i : Nat} (hx : look (F.map rwo) x = some i) : ∃ z, F[i]? = some z ∧ nI (en z.1) = x ∧ ∀ (j : Nat) (y : EN), j < i → (F.map Prod.fst)[j]? = some y → nI (en y) ≠ x := by
  obtain ⟨r, hr, hrx, hrf⟩ := look_some hx
  rw [List.getElem?_map] at hr
  cases hz : F[i]? with
  | none => rw [hz] at hr; cases hr
  | some z =>
    rw [hz] at hr
    have hr : rwo z = r := Option.some.inj hr
    refine ⟨z, rfl, by rw [← hrx, ← hr]; rfl, fun j y hj hy => ?_⟩
    rw [List.getElem?_map] at hy
    cases hq : F[j]? with
    | none => rw [hq] at hy; cases hy
    | some q =>
      rw [hq] at hy
      have hy : q.1 = y := Option.some.inj hy
      have := hrf j (rwo q) hj (by rw [List.getElem?_map, hq]; rfl)
      rw [← hy]
      exact this
theorem X1_take_ {x : Int32} {i : Nat} (hw : hwf h) (A : SHA G lo h s d el ar n tl ta nt F bl K sq gb) (hlo : lo ≤ hsz h) (hx : look (F.map rwo) x = some i) :
    Do_ G M_X2_take [.ref d, .int x] h (RV fun h' => SHA G lo h' s d el ar n tl ta nt (F.eraseIdx i) bl K sq gb ∧ KL el ar n h h' ∧ hm h' ≤ hm h + 5) := by
  obtain ⟨z, hz, hzx, hzf⟩ := look_F hx
  refine (X2_take_ (i := i) (e := z.1) hw A.2.1 (by rw [List.getElem?_map, hz]; rfl) hzx hzf).rv ?_
  rintro h' w' s' ⟨D', k, m⟩
  rw [← map_ers] at D'
  exact ⟨A.dir hw D' k (Or.inl ⟨rfl, rfl⟩) hlo (fun y hy => ⟨A.2.2.2.2.1 y (mem_ers hy), A.2.2.2.2.2.2.2.2.2.2.2.2.2 y (mem_ers hy)⟩), k, m⟩
theorem srt_ers {R : List rw_} {i : Nat} (h : srt R) : srt (R.eraseIdx i) := List.Pairwise.sublist (List.eraseIdx_sublist ..) h
/-- an alias is made, and put -/
theorem mkali_ {a x t : Nat} {z : EN} {tt : tt_} {Q : Int32 → hp_ → Prop} (hw : hwf h) (A : SHA G lo h s d el ar n tl ta nt F bl K sq gb) (hlo : lo ≤ hsz h) (hs : srt (F.map rwo)) (hz : ent h z) (ht : (et z, tt) ∈ K) (ha : a < 676) (hx : x < 676) (hn : ∀ r ∈ F.map rwo, r.1 ≠ a) (hl : F.length < 24)
    (hQ : ∀ h' ar' n', hwf h' → hsz h ≤ hsz h' → SHA G lo h' s d el ar' n' tl ta nt (F.insertIdx (plc (F.map rwo) a) ((hsz h, a, some x, et z), tt)) bl K sq gb → Fs lo h h' → hm h' + 4 * n ≤ hm h + 4 * n' + 4 → Q (nI tt.1) h') :
    ∃ a13, gf fd_X5_text (hnew h (eO 6 [.int 0, .null, .int 0]) 3) (ea z) = some (.ref a13) ∧ (cls_at (hnew h (eO 6 [.int 0, .null, .int 0]) 3) (hsz h) = some 6 ∧ Do_ G M_X6_init [.ref (hsz h), .int (nI a), .ref a13, .int (nI x)] (hnew h (eO 6 [.int 0, .null, .int 0]) 3) (RV fun h14 => (cls_at h14 d = some 2 ∧ Do_ G M_X2_put [.ref d, .ref (hsz h)] h14 (RV fun h15 => ∃ a16, gf fd_X5_text h15 (ea z) = some (.ref a16) ∧ ∃ x17, gf fd_X7_start h15 a16 = some (.int x17) ∧ RI Q (.inl (some (.int x17))) h15)))) := by
  refine ⟨_, (hz.le (Le.new hw _ _)).text, cax (hnew_at _ _ _), (X6_init_ (hnew_at _ _ _)).rv ?_⟩
  rintro h14 w14 s14 rfl
  rw [hset_new] at *
  have l1 : Le h (hnew h (eO 6 [.int (nI a), .ref (et z), .int (nI x)]) 3) := Le.new hw _ _
  have ke : ent (hnew h (eO 6 [.int (nI a), .ref (et z), .int (nI x)]) 3) (hsz h, a, some x, et z) := ⟨hnew_at _ _ _, ha, fun y hy => by rw [← Option.some.inj (show some x = some y from hy)]; exact hx⟩
  have m1 : hm (hnew h (eO 6 [.int (nI a), .ref (et z), .int (nI x)]) 3) = hm h + 4 := hm_new _ _ _
  have z1 : hsz (hnew h (eO 6 [.int (nI a), .ref (et z), .int (nI x)]) 3) = hsz h + 1 := hsz_new _ _ _
  generalize hnew h (eO 6 [.int (nI a), .ref (et z), .int (nI x)]) 3 = h1 at *
  have A1 := A.le l1
  refine ⟨cax A1.2.1.1, (X1_put_ (e := (hsz h, a, some x, et z)) (t := tt) w14 A1 (by omega) hs ke hlo ht hn hl).rv ?_⟩
  rintro h15 w15 s15 ⟨ar', n', A15, W⟩
  have k15 : KL el ar n h1 h15 := W.1
  obtain ⟨mc, f, d2⟩ := A1.2.1.2.1
  have kz := (hz.le l1).kl d2 k15
  have t15 : txt h15 (et z) tt.1 tt.2.1 tt.2.2 := A15.2.2.2.1 (et z, tt) ht
  refine ⟨_, kz.text, _, gfx t15 rfl rfl, _, rfl, hQ h15 ar' n' w15 (by omega) A15 ((l1.fs lo).trans (A1.klfrs k15)) ?_⟩
  have := W.2.2
  omega
theorem given_x {g : Option Nat} {x : Nat} (hg : ∀ y, g = some y → y < 676) (hx : x < 676) : gvI g = nI x ↔ g = some x := by
  cases g with
  | none =>
    constructor
    · intro e
      exfalso
      have h1 := congrArg Int32.toInt e
      rw [nI_toInt (by omega)] at h1
      have h2 : (gvI none).toInt = -5 := by decide
      omega
    · intro e; cases e
  | some y =>
    have := hg y rfl
    constructor
    · intro e
      have : y = x := (nI_eq' (by omega) (by omega)).mp e
      rw [this]
    · intro e
      rw [Option.some.inj e]; rfl
theorem X1_alias_ {a x : Nat} (hw : hwf h) (A : SHL G lo h s σ N) (Wσ : WS σ) (hlo : lo ≤ hsz h) (ha : a < 676) (hx : x < 676) :
    Do_ G M_X1_alias [.ref s, .int (nI a), .int (nI x)] h (RI fun y h' => y = (aliasS σ a x).1 ∧ (∃ N', SHL G lo h' s (aliasS σ a x).2 N' ∧ hm h' + 4 * N ≤ hm h + 4 * N' + 30) ∧ Fs lo h h') := by
  obtain ⟨d, el, ar, n, tl, ta, nt, F, K, A, eR_, eT, rfl⟩ := A
  obtain ⟨R, T, bl, sq, gb⟩ := σ
  have eR_ : R = F.map rwo := eR_
  have eT : T = K.map Prod.snd := eT
  have A : SHA G lo h s d el ar n tl ta nt F bl K sq gb := A
  have hc : chn 0 T := Wσ.2.2.2.2.2.1
  have ht : tsum T ≤ 100 := Wσ.2.2.2.2.2.2
  have hs : srt R := Wσ.1
  have hb : R.length ≤ 4 * bl := Wσ.2.2.1
  have hb6 : bl ≤ 6 := Wσ.2.2.2.2.1
  have eF : R.length = F.length := by rw [eR_, List.length_map]
  have same : ∀ h', Le h h' → hm h' ≤ hm h + 30 → (∃ N', SHL G lo h' s (R, T, bl, sq, gb) N' ∧ hm h' + 4 * (n + nt) ≤ hm h + 4 * N' + 30) ∧ Fs lo h h' := fun h' l hm_ => ⟨⟨n + nt, ⟨d, el, ar, n, tl, ta, nt, F, K, A.le l, eR_, eT, rfl⟩, by omega⟩, l.fs lo⟩
  refine e_X1_alias ⟨_, gfx A.1 rfl rfl, cax A.2.1.1, (X2_member_ hw A.2.1).ro ?_ ?_⟩
  · rintro h4 w4 s4 ⟨f1, l4, m4⟩
    have hm0 : memb R (nI x) = none := by
      unfold memb
      cases hk : look R (nI x) with
      | none => rfl
      | some i =>
        rw [eR_] at hk
        obtain ⟨z, hz, -⟩ := look_F hk
        have := f1 _ (fnd_look hk hz)
        have hri : R[i]? = some (rwo z) := by rw [eR_, List.getElem?_map, hz]; rfl
        simp only [hri]
        rw [if_pos (show (rwo z).2.1.isSome = true from this)]
    have hal : aliasS (R, T, bl, sq, gb) a x = (-1, (R, T, bl, sq, gb)) := by
      unfold aliasS; simp only [hm0]
    rw [hal]
    exact ⟨_, rfl, rfl, same h4 l4 (by omega)⟩
  · rintro _ h3 w3 s3 ⟨e, f1, hg, rfl, l3, m3⟩
    obtain ⟨i, z, z1, z2, z3⟩ := fnd_some f1
    rw [← eR_] at z3
    subst z2
    have hri : R[i]? = some (rwo z) := by rw [eR_, List.getElem?_map, z1]; rfl
    have hme : memb R (nI x) = some (rwo z) := by
      unfold memb
      simp only [z3, hri]
      rw [if_neg]
      show ¬ (eg z.1).isSome = true
      rw [hg]; simp
    have A3 := A.le l3
    have zK := A.2.2.2.2.1 z (List.mem_of_getElem? z1)
    have kz3 : ent h3 z.1 := A3.2.1.2.2.1 z.1 (List.mem_map_of_mem (List.mem_of_getElem? z1))
    have hrs : (rwo z).2.2.1 = z.2.1 := rfl
    refine ⟨_, gfx A3.1 rfl rfl, cax A3.2.1.1, (X2_find_ w3 A3.2.1).ro ?_ ?_⟩
    · rintro h8 w8 s8 ⟨f2, l8, m8⟩
      have hlk : look R (nI a) = none := by rw [eR_]; exact fnd_none f2
      have A8 := A3.le l8
      refine ⟨_, gfx A8.1 rfl rfl, cax A8.2.1.1, (X2_free_ A8.2.1 (by rw [List.length_map, ← eF]; exact hb)).use ?_⟩
      rw [List.length_map, ← eF]
      refine ⟨fun c => ⟨_, gfx A8.1 rfl rfl, ?_⟩, fun c => ?_⟩
      · have hfull : ¬ R.length = 4 * bl := fun e => c (by rw [e, Nat.sub_self]; rfl)
        have hal : aliasS (R, T, bl, sq, gb) a x = (nI z.2.1, (insR R (a, some x, z.2), T, bl, sq, gb)) := by
          unfold aliasS; simp only [hme, hlk, if_neg hfull]; rfl
        refine mkali_ (t := 0) w8 A8 (by omega) (by rw [← eR_]; exact hs) (kz3.le l8) zK ha hx ?_ (by omega) ?_
        · intro r hr e
          rw [← eR_] at hr
          exact look_none hlk r hr (by rw [e])
        · intro h' ar' n' w' s' A' fr m'
          rw [hal]
          refine ⟨rfl, ⟨n' + nt, ⟨d, el, ar', n', tl, ta, nt, _, K, A', ?_, eT, rfl⟩, by omega⟩, ((l3.fs lo).trans (l8.fs lo)).trans fr⟩
          rw [map_ins, ← eR_]; rfl
      · have hfull : R.length = 4 * bl := by
          have := (nI_eq' (a := 4 * bl - R.length) (b := 0) (by omega) (by omega)).mp (Classical.not_not.mp c)
          omega
        have hal : aliasS (R, T, bl, sq, gb) a x = (-6, (R, T, bl, sq, gb)) := by
          unfold aliasS; simp only [hme, hlk, if_pos hfull]
        rw [hal]
        exact ⟨_, rfl, rfl, same h8 (l3.trans l8) (by omega)⟩
    · rintro _ h7 w7 s7 ⟨e, f2, rfl, l7, m7⟩
      obtain ⟨j, q, q1, q2, q3⟩ := fnd_some f2
      rw [← eR_] at q3
      subst q2
      have hrj : R[j]? = some (rwo q) := by rw [eR_, List.getElem?_map, q1]; rfl
      have A7 := A3.le l7
      have kq : ent h7 q.1 := A7.2.1.2.2.1 q.1 (List.mem_map_of_mem (List.mem_of_getElem? q1))
      have kz : ent h7 z.1 := kz3.le l7
      have qK := A.2.2.2.2.1 q (List.mem_of_getElem? q1)
      have hqg : ∀ y, eg q.1 = some y → y < 676 := kq.2.2
      have teq : et q.1 = et z.1 ↔ q.2.1 = z.2.1 := K_inj A.2.2.2.1 (by rw [← eT]; exact hc) (by rw [← eT]; exact ht) (a := (et q.1, q.2)) (b := (et z.1, z.2)) qK zK
      -- the old one is taken, the new one is put
      have fin : ∀ h8, hwf h8 → hsz h7 ≤ hsz h8 → Le h7 h8 → hm h8 ≤ hm h7 → (eg q.1).isSome = true → ¬ (q.2.1 = z.2.1 ∧ eg q.1 = some x) →
          ∃ a24, gf fd_X1_directory h8 s = some (.ref a24) ∧ (cls_at h8 a24 = some 2 ∧ Do_ G M_X2_take [.ref a24, .int (nI a)] h8 (RV fun h25 => ∃ a26, gf fd_X1_directory h25 s = some (.ref a26) ∧ ∃ a27, gf fd_X5_text (hnew h25 (eO 6 [.int 0, .null, .int 0]) 3) (ea z.1) = some (.ref a27) ∧ (cls_at (hnew h25 (eO 6 [.int 0, .null, .int 0]) 3) (hsz h25) = some 6 ∧ Do_ G M_X6_init [.ref (hsz h25), .int (nI a), .ref a27, .int (nI x)] (hnew h25 (eO 6 [.int 0, .null, .int 0]) 3) (RV fun h28 => (cls_at h28 a26 = some 2 ∧ Do_ G M_X2_put [.ref a26, .ref (hsz h25)] h28 (RV fun h29 => ∃ a30, gf fd_X5_text h29 (ea z.1) = some (.ref a30) ∧ ∃ x31, gf fd_X7_start h29 a30 = some (.int x31) ∧ RI (fun y h' => y = (aliasS (R, T, bl, sq, gb) a x).1 ∧ (∃ N', SHL G lo h' s (aliasS (R, T, bl, sq, gb) a x).2 N' ∧ hm h' + 4 * (n + nt) ≤ hm h + 4 * N' + 30) ∧ Fs lo h h') (.inl (some (.int x31))) h29)))))) := by
        intro h8 w8 s8 l8 m8 hsome hnot
        have A8 := A7.le l8
        have hal : aliasS (R, T, bl, sq, gb) a x = (nI z.2.1, (insR (R.eraseIdx j) (a, some x, z.2), T, bl, sq, gb)) := by
          unfold aliasS; simp only [hme, q3, hrj]
          rw [if_pos (show (rwo q).2.1.isSome = true from hsome), if_neg (show ¬ ((rwo q).2.2.1 = (rwo z).2.2.1 ∧ (rwo q).2.1 = some x) from hnot)]
          rfl
        refine ⟨_, gfx A8.1 rfl rfl, cax A8.2.1.1, (X1_take_ w8 A8 (by omega) (by rw [← eR_]; exact q3)).rv ?_⟩
        rintro h25 w25 s25 ⟨A25, k25, m25⟩
        obtain ⟨mc, f, d2⟩ := A8.2.1.2.1
        have ers : (F.eraseIdx j).map rwo = R.eraseIdx j := by rw [map_ers, ← eR_]
        refine ⟨_, gfx A25.1 rfl rfl, mkali_ (t := 0) w25 A25 (by omega) (by rw [ers]; exact srt_ers hs) ((kz.le l8).kl d2 k25) zK ha hx ?_ ?_ ?_⟩
        · intro r hr e
          rw [ers] at hr
          rw [List.mem_eraseIdx_iff_getElem?] at hr
          obtain ⟨k, hkj, hk⟩ := hr
          obtain ⟨r', hr', hra, -⟩ := look_some q3
          rw [hrj] at hr'
          have hr' := Option.some.inj hr'
          have h1 := (Wσ.2.1 (rwo q) (List.mem_of_getElem? hrj)).1
          have : (rwo q).1 = a := (nI_eq' (by omega) (by omega)).mp (by rw [hr']; exact hra)
          exact hkj (srt_inj hs hk hrj (by rw [e, this]))
        · rw [List.length_eraseIdx]
          have := (List.getElem?_eq_some_iff.mp q1).1
          rw [if_pos this]
          omega
        · intro h' ar' n' w' s' A' fr m'
          rw [hal]
          refine ⟨rfl, ⟨n' + nt, ⟨d, el, ar', n', tl, ta, nt, _, K, A', ?_, eT, rfl⟩, by omega⟩, ((((l3.fs lo).trans (l7.fs lo)).trans (l8.fs lo)).trans (A8.klfrs k25)).trans fr⟩
          rw [map_ins, ers]; rfl
      refine kq.isA ⟨fun c => ⟨_, kq.text, _, kz.text, fun c2 => ?_, fun c2 => ?_⟩, fun c => ?_⟩
      · have hsome := (bI_ne0 _).mp c
        have h1 : q.2.1 = z.2.1 := teq.mp (by simpa using c2)
        refine given_ kq ⟨fun c3 => ?_, fun c3 => ?_⟩
        · exact fin h7 w7 (Nat.le_refl _) Le.rfl (Nat.le_refl _) hsome (fun e => c3 ((given_x hqg hx).mpr e.2))
        · have h2 := (given_x hqg hx).mp (Classical.not_not.mp c3)
          have hal : aliasS (R, T, bl, sq, gb) a x = (-5, (R, T, bl, sq, gb)) := by
            unfold aliasS; simp only [hme, q3, hrj]
            rw [if_pos (show (rwo q).2.1.isSome = true from hsome), if_pos (show (rwo q).2.2.1 = (rwo z).2.2.1 ∧ (rwo q).2.1 = some x from ⟨h1, h2⟩)]
          rw [hal]
          exact ⟨_, rfl, rfl, same h7 (l3.trans l7) (by omega)⟩
      · have hsome := (bI_ne0 _).mp c
        exact fin h7 w7 (Nat.le_refl _) Le.rfl (Nat.le_refl _) hsome (fun e => c2 (by rw [teq.mpr e.1]))
      · have hnone := (bI_0 _).mp (Classical.not_not.mp c)
        have hal : aliasS (R, T, bl, sq, gb) a x = (-7, (R, T, bl, sq, gb)) := by
          unfold aliasS; simp only [hme, q3, hrj]
          rw [if_neg (show ¬ (rwo q).2.1.isSome = true from by show ¬ (eg q.1).isSome = true; rw [hnone]; simp)]
        rw [hal]
        exact ⟨_, rfl, rfl, same h7 (l3.trans l7) (by omega)⟩
end D19
