/-! SPECS 18: additions, replacings, aliases of a shelf -/
set_option maxRecDepth 100000
def addS (σ : sg_) (x l m : Nat) : Int32 × sg_ :=
  if (look σ.1 (nI x)).isSome then (-7, σ) else if σ.1.length = 4 * σ.2.2.1 then (-6, σ) else if 100 < tsum σ.2.1 + l then (-3, σ)
  else (nI (tsum σ.2.1), (insR σ.1 (x, none, (tsum σ.2.1, l, m)), σ.2.1 ++ [(tsum σ.2.1, l, m)], σ.2.2))
/-- the row of a member -/
def memb (R : List rw_) (x : Int32) : Option rw_ := match look R x with
  | none => none
  | some i => match R[i]? with
    | none => none
    | some r => if r.2.1.isSome then none else some r
def aliasS (σ : sg_) (a x : Nat) : Int32 × sg_ := match memb σ.1 (nI x) with
  | none => (-1, σ)
  | some r => match look σ.1 (nI a) with
    | none => if σ.1.length = 4 * σ.2.2.1 then (-6, σ) else (nI r.2.2.1, (insR σ.1 (a, some x, r.2.2), σ.2))
    | some j => match σ.1[j]? with
      | none => (-1, σ)
      | some q => if q.2.1.isSome then (if q.2.2.1 = r.2.2.1 ∧ q.2.1 = some x then (-5, σ) else (nI r.2.2.1, (insR (σ.1.eraseIdx j) (a, some x, r.2.2), σ.2))) else (-7, σ)
theorem fnd_some {F : List (EN × tt_)} {x : Int32} {e : EN} (h : fnd (F.map Prod.fst) x = some e) : ∃ i y, F[i]? = some y ∧ y.1 = e ∧ look (F.map rwo) x = some i := by
  unfold fnd at h
  rw [List.find?_eq_some_iff_getElem] at h
  obtain ⟨h1, i, hi, h2, h3⟩ := h
  have hi' : i < F.length := by rw [List.length_map] at hi; exact hi
  refine ⟨i, F[i], List.getElem?_eq_getElem hi', by rw [← h2, List.getElem_map], ?_⟩
  refine look_of (r := rwo F[i]) (by rw [List.getElem?_map, List.getElem?_eq_getElem hi']; rfl) ?_ (fun j y hj hy => ?_)
  · have : F[i].1 = e := by rw [← h2, List.getElem_map]
    show nI (en F[i].1) = x
    rw [this]
    exact of_decide_eq_true h1
  · have := h3 j hj
    rw [List.getElem_map] at this
    rw [List.getElem?_map, List.getElem?_eq_getElem (by omega)] at hy
    have hy := Option.some.inj hy
    rw [← hy]
    have h4 := of_decide_eq_false (by simpa using this : decide (nI (en F[j].1) = x) = false)
    exact h4
theorem fnd_none {F : List (EN × tt_)} {x : Int32} (h : fnd (F.map Prod.fst) x = none) : look (F.map rwo) x = none := by
  unfold fnd at h
  rw [List.find?_eq_none] at h
  refine look_no (fun r hr => ?_)
  obtain ⟨y, hy, rfl⟩ := List.mem_map.mp hr
  have := h y.1 (List.mem_map_of_mem hy)
  exact of_decide_eq_false (by simpa using this : decide (nI (en y.1) = x) = false)
theorem fnd_look {F : List (EN × tt_)} {x : Int32} {i : Nat} {y : EN × tt_} (h : look (F.map rwo) x = some i) (hi : F[i]? = some y) : fnd (F.map Prod.fst) x = some y.1 := by
  cases he : fnd (F.map Prod.fst) x with
  | none => rw [fnd_none he] at h; cases h
  | some e =>
    obtain ⟨j, z, h1, h2, h3⟩ := fnd_some he
    rw [h] at h3
    cases h3
    rw [hi] at h1
    cases h1
    rw [h2]
section D18
variable {G : g_} {lo : Nat} {h : hp_} {s d el ar n tl ta nt : Nat} {F : List (EN × tt_)} {bl : Nat} {K : List (Nat × tt_)} {sq gb : Int32} {σ : sg_} {N : Nat}
/-- the directory was written -/
theorem SHA.dir {h' : hp_} {ar' n' : Nat} {F' : List (EN × tt_)} (hw : hwf h) (A : SHA G lo h s d el ar n tl ta nt F bl K sq gb) (D' : DR G h' d el ar' n' (F'.map Prod.fst) bl) (k : KL el ar n h h') (c : (ar' = ar ∧ n' = n) ∨ hsz h ≤ ar') (hlo : lo ≤ hsz h) (hF : ∀ x ∈ F', (et x.1, x.2) ∈ K ∧ lo ≤ ea x.1) : SHA G lo h' s d el ar' n' tl ta nt F' bl K sq gb := by
  obtain ⟨a1, a2, ⟨mt, ft, a3⟩, a4, a5, b1, b2, b3, b4, b5, b6, b7, b8, b9⟩ := A
  obtain ⟨mc, f, d2⟩ := a2.2.1
  refine ⟨k _ _ (hgn a1 d2.1 (by simp)) (Or.inl (hgn a1 d2.2.1 (by simp))) a1, D', ⟨mt, ft, k _ _ (Ne.symm b7) (Or.inl (hgn a3.1 d2.2.1 (by simp))) a3.1, k _ _ (hgn a3.2.1 d2.1 (by simp)) (sepL b8 d2.2.1 a3.2.1) a3.2.1, a3.2.2⟩, fun y hy => ?_, fun x hx => (hF x hx).1, b1, b2, b3, ?_, b5, b6, b7, ?_, fun x hx => (hF x hx).2⟩
  · have := a4 y hy
    unfold txt at this
    exact k _ _ (hgn this d2.1 (by simp)) (Or.inl (hgn this d2.2.1 (by simp))) this
  · rcases c with ⟨q1, q2⟩ | q
    · rw [q1, q2]; exact b4
    · left; omega
  · rcases c with ⟨q1, q2⟩ | q
    · rw [q1, q2]; exact b8
    · left
      have := hlt hw a3.2.1
      omega
/-- the list of texts was written -/
theorem SHA.txs {h' : hp_} {ta' nt' : Nat} {mt' : Int32} {ft' : Nat → Option Nat} {K' : List (Nat × tt_)} (hw : hwf h) (A : SHA G lo h s d el ar n tl ta nt F bl K sq gb) (A' : AL G h' tl (K'.map Prod.fst) mt' ta' nt' ft') (k : KL tl ta nt h h') (c : (ta' = ta ∧ nt' = nt) ∨ hsz h ≤ ta') (hlo : lo ≤ hsz h) (hK : ∀ y ∈ K', txt h' y.1 y.2.1 y.2.2.1 y.2.2.2) (hF : ∀ x ∈ F, (et x.1, x.2) ∈ K') : SHA G lo h' s d el ar n tl ta' nt' F bl K' sq gb := by
  obtain ⟨a1, a2, ⟨mt, ft, a3⟩, a4, a5, b1, b2, b3, b4, b5, b6, b7, b8, b9⟩ := A
  obtain ⟨d1, ⟨mc, f, d2⟩, d3, d4⟩ := a2
  refine ⟨k _ _ (hgn a1 a3.1 (by simp)) (Or.inl (hgn a1 a3.2.1 (by simp))) a1, ⟨k _ _ (hgn d1 a3.1 (by simp)) (Or.inl (hgn d1 a3.2.1 (by simp))) d1, ⟨mc, f, k _ _ b7 (Or.inl (hgn d2.1 a3.2.1 (by simp))) d2.1, k _ _ (hgn d2.2.1 a3.1 (by simp)) (sepR b8 d2.2.1 a3.2.1) d2.2.1, d2.2.2⟩, fun e he => (d3 e he).kl a3 k, d4⟩, ⟨mt', ft', A'⟩, hK, hF, b1, b2, b3, b4, b5, ?_, b7, ?_, b9⟩
  · rcases c with ⟨q1, q2⟩ | q
    · rw [q1, q2]; exact b6
    · left; omega
  · rcases c with ⟨q1, q2⟩ | q
    · rw [q1, q2]; exact b8
    · left
      have := hlt hw d2.2.1
      omega
theorem SHA.elne (A : SHA G lo h s d el ar n tl ta nt F bl K sq gb) : ∃ mc f, AL G h el ((F.map Prod.fst).map ea) mc ar n f := A.2.1.2.1
theorem SHA.klfr {h' : hp_} (A : SHA G lo h s d el ar n tl ta nt F bl K sq gb) (k : KL el ar n h h') : Fr lo h h' := by
  obtain ⟨a1, a2, a3, a4, a5, b1, b2, b3, b4, b5, b6, b7, b8, b9⟩ := A
  exact k.fr b3 b4
theorem SHA.klft {h' : hp_} (A : SHA G lo h s d el ar n tl ta nt F bl K sq gb) (k : KL tl ta nt h h') : Fr lo h h' := by
  obtain ⟨a1, a2, a3, a4, a5, b1, b2, b3, b4, b5, b6, b7, b8, b9⟩ := A
  exact k.fr b5 b6
/-- what lay below is there, and every list's iterator -/
def Fs (n : Nat) (h h' : hp_) : Prop := Fr n h h' ∧ ∀ q fs, hget h q = some (eO 14 fs) → hget h' q = some (eO 14 fs)
theorem Fs.trans {n : Nat} {h h1 h2 : hp_} (x : Fs n h h1) (y : Fs n h1 h2) : Fs n h h2 := ⟨x.1.trans y.1, fun q fs z => y.2 q fs (x.2 q fs z)⟩
theorem Le.fs {h h1 : hp_} (x : Le h h1) (n : Nat) : Fs n h h1 := ⟨x.fr n, fun q fs z => x q _ z⟩
theorem SHA.klfrs {h' : hp_} (A : SHA G lo h s d el ar n tl ta nt F bl K sq gb) (k : KL el ar n h h') : Fs lo h h' := by
  refine ⟨A.klfr k, fun q fs z => ?_⟩
  obtain ⟨mc, f, d2⟩ := A.2.1.2.1
  exact k _ _ (hgn z d2.1 (by simp)) (Or.inl (hgn z d2.2.1 (by simp))) z
theorem SHA.klfts {h' : hp_} (A : SHA G lo h s d el ar n tl ta nt F bl K sq gb) (k : KL tl ta nt h h') : Fs lo h h' := by
  refine ⟨A.klft k, fun q fs z => ?_⟩
  obtain ⟨mt, ft, a3⟩ := A.2.2.1
  exact k _ _ (hgn z a3.1 (by simp)) (Or.inl (hgn z a3.2.1 (by simp))) z
theorem WA.c {l ar n : Nat} {h h' : hp_} {ar' n' : Nat} (W : WA l ar n h h' ar' n') : (ar' = ar ∧ n' = n) ∨ hsz h ≤ ar' := by
  rcases W.2.1 with ⟨a, b, -⟩ | a
  · exact Or.inl ⟨a, b⟩
  · exact Or.inr a
theorem X1_lay_ {l m : Nat} (hw : hwf h) (A : SHA G lo h s d el ar n tl ta nt F bl K sq gb) (hlo : lo ≤ hsz h) (hc : chn 0 (K.map Prod.snd)) (h1 : tsum (K.map Prod.snd) + l ≤ 100) :
    Do_ G M_X1_lay [.ref s, .int (nI l), .int (nI m)] h (RN fun y h' => y = hsz h ∧ ∃ ta' nt', SHA G lo h' s d el ar n tl ta' nt' F bl (K ++ [(hsz h, (tsum (K.map Prod.snd), l, m))]) sq gb ∧ KL tl ta nt h h' ∧ hm h' + 4 * nt ≤ hm h + 4 * nt' + 4) := by
  have hK : K.length ≤ 100 := by have := chn_len hc; rw [List.length_map] at this; omega
  have A1 := A.le (Le.new hw (eO 7 [.int 0, .int 0, .int 0]) 3)
  have w1 := hwf_new hw (eO 7 [.int 0, .int 0, .int 0]) 3
  have hs : s < hsz h := hlt hw A.1
  refine e_X1_lay ⟨cax A1.1, (X1_end_ A1 hc (by omega)).use ⟨cax (hnew_at _ _ _), (X7_init_ (hnew_at _ _ _)).rv ?_⟩⟩
  rintro h3 w3 s3 rfl
  rw [hset_new] at *
  have A2 := A.le (Le.new hw (eO 7 [.int (nI (tsum (K.map Prod.snd))), .int (nI l), .int (nI m)]) 3)
  have w2 := hwf_new hw (eO 7 [.int (nI (tsum (K.map Prod.snd))), .int (nI l), .int (nI m)]) 3
  have l2 := Le.new hw (eO 7 [.int (nI (tsum (K.map Prod.snd))), .int (nI l), .int (nI m)]) 3
  have t2 : txt (hnew h (eO 7 [.int (nI (tsum (K.map Prod.snd))), .int (nI l), .int (nI m)]) 3) (hsz h) (tsum (K.map Prod.snd)) l m := hnew_at _ _ _
  have m2 : hm (hnew h (eO 7 [.int (nI (tsum (K.map Prod.snd))), .int (nI l), .int (nI m)]) 3) = hm h + 4 := hm_new _ _ _
  have z2 : hsz (hnew h (eO 7 [.int (nI (tsum (K.map Prod.snd))), .int (nI l), .int (nI m)]) 3) = hsz h + 1 := hsz_new _ _ _
  generalize hnew h (eO 7 [.int (nI (tsum (K.map Prod.snd))), .int (nI l), .int (nI m)]) 3 = h2 at *
  have A20 := A2
  obtain ⟨a1, a2, ⟨mt, ft, a3⟩, a4, a5, -⟩ := A2
  have ob : ∀ x ∈ K.map Prod.fst, obk h2 x := by
    intro x hx
    obtain ⟨y, hy, rfl⟩ := List.mem_map.mp hx
    exact Or.inl ⟨7, _, a4 y hy, by decide⟩
  refine ⟨_, gfx a1 rfl rfl, cax a3.1, (J2_add_ w2 a3 (by rw [List.length_map]; omega) ob (Or.inl ⟨7, _, t2, by decide⟩)).ri ?_⟩
  rintro _ h4 w4 s4 ⟨-, ta', nt', ft', A4, W⟩
  have k4 : KL tl ta nt h2 h4 := W.1
  rw [show K.map Prod.fst ++ [hsz h] = (K ++ [(hsz h, (tsum (K.map Prod.snd), l, m))]).map Prod.fst from by rw [List.map_append]; rfl] at A4
  refine ⟨_, rfl, rfl, ta', nt', A20.txs w2 A4 k4 W.c (by omega) (fun y hy => ?_) (fun x hx => List.mem_append_left _ (a5 x hx)), KL.pre l2 k4, ?_⟩
  · rcases List.mem_append.mp hy with hy | hy
    · have := a4 y hy
      unfold txt at this
      exact k4 _ _ (hgn this a3.1 (by simp)) (Or.inl (hgn this a3.2.1 (by simp))) this
    · have : y = (hsz h, (tsum (K.map Prod.snd), l, m)) := by simpa using hy
      subst this
      have t3 := t2
      unfold txt at t3
      exact k4 _ _ (hgn t3 a3.1 (by simp)) (Or.inl (hgn t3 a3.2.1 (by simp))) t3
  · have := W.2.2
    omega
theorem X1_put_ {e : EN} {t : tt_} (hw : hwf h) (A : SHA G lo h s d el ar n tl ta nt F bl K sq gb) (hlo : lo ≤ hsz h) (hs : srt (F.map rwo)) (k : ent h e) (ke : lo ≤ ea e) (kt : (et e, t) ∈ K) (hn : ∀ r ∈ F.map rwo, r.1 ≠ en e) (hl : F.length < 24) :
    Do_ G M_X2_put [.ref d, .ref (ea e)] h (RV fun h' => ∃ ar' n', SHA G lo h' s d el ar' n' tl ta nt (F.insertIdx (plc (F.map rwo) (en e)) (e, t)) bl K sq gb ∧ WA el ar n h h' ar' n') := by
  have hp := plc_le (F.map rwo) (en e)
  rw [List.length_map] at hp
  have rw_at : ∀ (i : Nat) (y : EN), (F.map Prod.fst)[i]? = some y → ∃ r, (F.map rwo)[i]? = some r ∧ r.1 = en y := by
    intro i y hy
    rw [List.getElem?_map] at hy
    cases hx : F[i]? with
    | none => rw [hx] at hy; cases hy
    | some x =>
      rw [hx] at hy
      have hy : x.1 = y := Option.some.inj hy
      exact ⟨rwo x, by rw [List.getElem?_map, hx]; rfl, by rw [← hy]; rfl⟩
  refine (X2_put_ (p := plc (F.map rwo) (en e)) hw A.2.1 k (by rw [List.length_map]; exact hl) (by rw [List.length_map]; exact hp) (fun y h0 hy => ?_) (fun i y hi hy => ?_)).rv ?_
  · obtain ⟨r, hr, he⟩ := rw_at _ _ hy
    have := plc_lt (R := F.map rwo) (x := en e) (i := plc (F.map rwo) (en e) - 1) (by omega) hr
    omega
  · obtain ⟨r, hr, he⟩ := rw_at _ _ hy
    have := plc_ge hs hi hr
    have := hn r (List.mem_of_getElem? hr)
    omega
  · rintro h' w' s' ⟨ar', n', D', W⟩
    rw [show e = Prod.fst (e, t) from rfl, ← map_ins] at D'
    refine ⟨ar', n', A.dir hw D' W.1 W.c hlo (fun x hx => ?_), W⟩
    rcases mem_ins hx with rfl | hx
    · exact ⟨kt, ke⟩
    · exact ⟨A.2.2.2.2.1 x hx, A.2.2.2.2.2.2.2.2.2.2.2.2.2 x hx⟩
theorem X1_add_ {x l m : Nat} (hw : hwf h) (A : SHL G lo h s σ N) (Wσ : WS σ) (hlo : lo ≤ hsz h) (hx : x < 676) (hl : 1 ≤ l ∧ l ≤ 40) (hm9 : m ≤ 9999) :
    Do_ G M_X1_add [.ref s, .int (nI x), .int (nI l), .int (nI m)] h (RI fun y h' => y = (addS σ x l m).1 ∧ (∃ N', SHL G lo h' s (addS σ x l m).2 N' ∧ hm h' + 4 * N ≤ hm h + 4 * N' + 30) ∧ Fs lo h h') := by
  obtain ⟨d, el, ar, n, tl, ta, nt, F, K, A, eR_, eT, rfl⟩ := A
  obtain ⟨R, T, bl, sq, gb⟩ := σ
  have eR_ : R = F.map rwo := eR_
  have eT : T = K.map Prod.snd := eT
  have A : SHA G lo h s d el ar n tl ta nt F bl K sq gb := A
  have hc : chn 0 T := Wσ.2.2.2.2.2.1
  have ht : tsum T ≤ 100 := Wσ.2.2.2.2.2.2
  have hb : R.length ≤ 4 * bl := Wσ.2.2.1
  have hb6 : bl ≤ 6 := Wσ.2.2.2.2.1
  have hs : srt R := Wσ.1
  have same : ∀ h', Le h h' → hm h' ≤ hm h + 5 → (∃ N', SHL G lo h' s (R, T, bl, sq, gb) N' ∧ hm h' + 4 * (n + nt) ≤ hm h + 4 * N' + 30) ∧ Fs lo h h' := fun h' l hm_ => ⟨⟨n + nt, ⟨d, el, ar, n, tl, ta, nt, F, K, A.le l, eR_, eT, rfl⟩, by omega⟩, l.fs lo⟩
  have eF : R.length = F.length := by rw [eR_, List.length_map]
  refine e_X1_add ⟨_, gfx A.1 rfl rfl, cax A.2.1.1, (X2_find_ hw A.2.1).ro ?_ ?_⟩
  · rintro h4 w4 s4 ⟨f1, l4, m4⟩
    have hlk : look R (nI x) = none := by rw [eR_]; exact fnd_none f1
    have A4 := A.le l4
    refine ⟨_, gfx A4.1 rfl rfl, cax A4.2.1.1, (X2_free_ A4.2.1 (by rw [List.length_map, ← eF]; exact hb)).use ?_⟩
    rw [List.length_map, ← eF]
    refine ⟨fun c => ⟨cax A4.1, (X1_fits_ (l := l) A4 (by rw [← eT]; exact hc) (by rw [← eT]; exact ht) hl.2).use ?_⟩, fun c => ?_⟩
    · rw [← eT]
      have hfull : ¬ R.length = 4 * bl := fun e => c (by rw [e, Nat.sub_self]; rfl)
      refine ⟨fun c2 => ?_, fun c2 => ?_⟩
      · have hfit : tsum T + l ≤ 100 := of_decide_eq_true ((bI_ne0 _).mp c2)
        have hadd : addS (R, T, bl, sq, gb) x l m = (nI (tsum T), (insR R (x, none, (tsum T, l, m)), T ++ [(tsum T, l, m)], bl, sq, gb)) := by
          unfold addS
          simp only [hlk, Option.isSome_none, Bool.false_eq_true, if_false, if_neg hfull, if_neg (show ¬ 100 < tsum T + l by omega)]
        have w5 := hwf_new w4 (eO 5 [.int 0, .null]) 2
        have l5 := Le.new w4 (eO 5 [.int 0, .null]) 2
        have z5 : hsz (hnew h4 (eO 5 [.int 0, .null]) 2) = hsz h4 + 1 := hsz_new _ _ _
        have m5 : hm (hnew h4 (eO 5 [.int 0, .null]) 2) = hm h4 + 3 := hm_new _ _ _
        have c5 : hget (hnew h4 (eO 5 [.int 0, .null]) 2) (hsz h4) = some (eO 5 [.int 0, .null]) := hnew_at _ _ _
        refine ⟨_, gfx A4.1 rfl rfl, ?_⟩
        generalize hnew h4 (eO 5 [.int 0, .null]) 2 = h5 at *
        have A5 := A4.le l5
        refine ⟨cax A5.1, (X1_lay_ (l := l) (m := m) w5 A5 (by omega) (by rw [← eT]; exact hc) (by rw [← eT]; exact hfit)).rn ?_⟩
        rintro _ h12 w12 s12 ⟨rfl, ta', nt', A12, k12, m12⟩
        obtain ⟨mt5, ft5, a35⟩ := A5.2.2.1
        have c12 : hget h12 (hsz h4) = _ := k12 _ _ (hgn c5 a35.1 (by simp)) (Or.inl (hgn c5 a35.2.1 (by simp))) c5
        refine ⟨cax c12, (X5_init_ (Or.inl rfl) (by simp) c12).rv ?_⟩
        rintro h13 w13 s13 e13
        have e13 : h13 = hset h12 (hsz h4) (eO 5 [.int (nI x), .ref (hsz h5)]) := e13
        have kp : ∀ q e, q ≠ hsz h4 → hget h12 q = some e → hget h13 q = some e := fun q e hq z => by rw [e13, hset_ne _ _ hq]; exact z
        have m13 : hm h13 = hm h12 := by rw [e13, hm_set]
        have c13 : hget h13 (hsz h4) = some (eO 5 [.int (nI x), .ref (hsz h5)]) := by rw [e13, hset_at]
        have z13 : hsz h13 = hsz h12 := by rw [e13, hsz_set]
        have l04 : hsz h ≤ hsz h4 := s4
        have A13 : SHA G lo h13 s d el ar n tl ta' nt' F bl (K ++ [(hsz h5, (tsum (K.map Prod.snd), l, m))]) sq gb := by
          obtain ⟨a1, a2, ⟨mt, ft, a3⟩, a4, a5, b⟩ := A12
          obtain ⟨d1, ⟨mc, f, d2⟩, d3, d4⟩ := a2
          refine ⟨kp _ _ (hgn a1 c12 (by simp)) a1, ⟨kp _ _ (hgn d1 c12 (by simp)) d1, ⟨mc, f, kp _ _ (hgn d2.1 c12 (by simp)) d2.1, kp _ _ (hgn d2.2.1 c12 (by simp)) d2.2.1, d2.2.2⟩, fun e he => ⟨kp _ _ ?_ (d3 e he).1, (d3 e he).2⟩, d4⟩, ⟨mt, ft, kp _ _ (hgn a3.1 c12 (by simp)) a3.1, kp _ _ (hgn a3.2.1 c12 (by simp)) a3.2.1, a3.2.2⟩, fun y hy => kp _ _ (hgn (a4 y hy) c12 (by simp)) (a4 y hy), a5, b⟩
          have := hlt hw (A.2.1.2.2.1 e he).1
          omega
        have ke : ent h13 (hsz h4, x, none, hsz h5) := ⟨c13, hx, fun y hy => by cases hy⟩
        have A12' := A12
        rw [← eT] at A13
        refine ⟨cax A13.2.1.1, (X1_put_ (e := (hsz h4, x, none, hsz h5)) (t := (tsum T, l, m)) w13 A13 (by omega) (by rw [← eR_]; exact hs) ke (by show lo ≤ hsz h4; omega) (by simp) ?_ ?_).rv ?_⟩
        · intro r hr e
          rw [← eR_] at hr
          have e : r.1 = x := e
          exact look_none hlk r hr (by rw [e])
        · omega
        · rintro h14 w14 s14 ⟨ar', n', A14, W⟩
          have k14 : KL el ar n h13 h14 := W.1
          have hins : (F.insertIdx (plc (F.map rwo) x) ((hsz h4, x, none, hsz h5), (tsum T, l, m))).map rwo = insR R (x, none, (tsum T, l, m)) := by
            rw [map_ins, ← eR_]; rfl
          have hx' : (F.insertIdx (plc (F.map rwo) x) ((hsz h4, x, none, hsz h5), (tsum T, l, m)))[plc (F.map rwo) x]? = some ((hsz h4, x, none, hsz h5), (tsum T, l, m)) := by
            rw [List.getElem?_insertIdx_self, if_pos]
            have := plc_le (F.map rwo) x
            rw [List.length_map] at this
            omega
          have hlk' : look (insR R (x, none, (tsum T, l, m))) (nI x) = some (plc (F.map rwo) x) := by
            refine look_of (r := (x, none, (tsum T, l, m))) ?_ rfl (fun j y hj hy => ?_)
            · rw [← hins, List.getElem?_map, hx']; rfl
            · unfold insR at hy
              rw [← eR_] at hj
              rw [List.getElem?_insertIdx_of_lt hj] at hy
              have := plc_lt hj hy
              intro e
              have hr := (Wσ.2.1 y (List.mem_of_getElem? hy)).1
              have e := (nI_eq' (by omega) (by omega)).mp e
              omega
          refine ⟨_, gfx A14.1 rfl rfl, cax A14.2.1.1, (X2_find_ w14 A14.2.1).ro ?_ ?_⟩
          · rintro h17 w17 s17 ⟨f2, -⟩
            have := fnd_none f2
            have hins' : (F.insertIdx (plc (F.map rwo) (en (hsz h4, x, none, hsz h5))) ((hsz h4, x, none, hsz h5), (tsum T, l, m))).map rwo = insR R (x, none, (tsum T, l, m)) := hins
            rw [hins', hlk'] at this
            cases this
          · rintro _ h17 w17 s17 ⟨e2, f2, rfl, l17, m17⟩
            obtain ⟨i, y, y1, y2, y3⟩ := fnd_some f2
            have hins' : (F.insertIdx (plc (F.map rwo) (en (hsz h4, x, none, hsz h5))) ((hsz h4, x, none, hsz h5), (tsum T, l, m))).map rwo = insR R (x, none, (tsum T, l, m)) := hins
            rw [hins', hlk'] at y3
            cases y3
            have y1 : (F.insertIdx (plc (F.map rwo) x) ((hsz h4, x, none, hsz h5), (tsum T, l, m)))[plc (F.map rwo) x]? = some y := y1
            rw [hx'] at y1
            cases y1
            have A17 := A14.le l17
            have ke17 : ent h17 e2 := (A14.2.1.2.2.1 e2 (List.mem_of_find?_eq_some f2)).le l17
            rw [← y2] at ke17 ⊢
            have kt17 : txt h17 (hsz h5) (tsum T) l m := A17.2.2.2.1 (hsz h5, (tsum T, l, m)) (by simp)
            refine ⟨_, ke17.text, _, gfx kt17 rfl rfl, _, rfl, ?_, ?_, ?_⟩
            · rw [hadd]
            · rw [hadd]
              refine ⟨n' + nt', ⟨d, el, ar', n', tl, ta', nt', _, _, A17, ?_, ?_, rfl⟩, ?_⟩
              · exact hins'.symm
              · show T ++ [(tsum T, l, m)] = _
                rw [List.map_append, ← eT]; rfl
              · have := W.2.2
                omega
            · refine (((l4.fs lo).trans (l5.fs lo)).trans (A5.klfts k12)).trans (Fs.trans (h1 := h13) ?_ ((A13.klfrs k14).trans (l17.fs lo)))
              exact ⟨fun q e hq z => kp _ _ (by omega) z, fun q fs z => kp _ _ (hgn z c12 (by simp)) z⟩
      · have hfit : ¬ tsum T + l ≤ 100 := of_decide_eq_false ((bI_0 _).mp (Classical.not_not.mp c2))
        have hadd : addS (R, T, bl, sq, gb) x l m = (-3, (R, T, bl, sq, gb)) := by
          unfold addS
          simp only [hlk, Option.isSome_none, Bool.false_eq_true, if_false, if_neg hfull, if_pos (show 100 < tsum T + l by omega)]
        rw [hadd]
        exact ⟨_, rfl, rfl, same h4 l4 m4⟩
    · have hfull : R.length = 4 * bl := by
        have := (nI_eq' (a := 4 * bl - R.length) (b := 0) (by omega) (by omega)).mp (Classical.not_not.mp c)
        omega
      have hadd : addS (R, T, bl, sq, gb) x l m = (-6, (R, T, bl, sq, gb)) := by
        unfold addS
        simp only [hlk, Option.isSome_none, Bool.false_eq_true, if_false, if_pos hfull]
      rw [hadd]
      exact ⟨_, rfl, rfl, same h4 l4 m4⟩
  · rintro _ h3 w3 s3 ⟨e, f1, rfl, l3, m3⟩
    obtain ⟨i, y, y1, y2, y3⟩ := fnd_some f1
    have hadd : addS (R, T, bl, sq, gb) x l m = (-7, (R, T, bl, sq, gb)) := by
      unfold addS
      rw [← eR_] at y3
      simp only [y3, Option.isSome_some, if_true]
    rw [hadd]
    exact ⟨_, rfl, rfl, same h3 l3 m3⟩
end D18
