/-! SPECS 32: the model's acts on rows -/
set_option maxRecDepth 100000
def dAdd (σ : sg_) (x l m : Int32) : Int32 × sg_ := if inr x 0 675 && (inr l 1 40 && inr m 0 9999) then addS σ (i2n x) (i2n l) (i2n m) else (-2, σ)
def dAli (σ : sg_) (a x : Int32) : Int32 × sg_ := match memb σ.1 x with
  | none => (-1, σ)
  | some _ => if inr a 0 675 then aliasS σ (i2n a) (i2n x) else (-2, σ)
theorem RA.cong {W W' : List (Nat → Int32)} {A : Nat → Int32} (a : RA W A) (hl : W'.length = W.length) (e : ∀ (i : Nat) (f : Nat → Int32), W'[i]? = some f → ∃ g, W[i]? = some g ∧ ∀ k, k < 6 → g k = f k) : RA W' A := by
  obtain ⟨a1, a2, a3⟩ := a
  refine ⟨by rw [hl]; exact a1, by rw [hl]; exact a2, fun i f hf k hk => ?_⟩
  obtain ⟨g, g1, g2⟩ := e i f hf
  rw [a3 i g g1 k hk, g2 k hk]
theorem lt6 {P : Nat → Prop} (h0 : P 0) (h1 : P 1) (h2 : P 2) (h3 : P 3) (h4 : P 4) (h5 : P 5) : ∀ k, k < 6 → P k := by
  intro k hk
  match k, hk with
  | 0, _ => exact h0
  | 1, _ => exact h1
  | 2, _ => exact h2
  | 3, _ => exact h3
  | 4, _ => exact h4
  | 5, _ => exact h5
  | k + 6, hk => omega
theorem rk_none {R : List rw_} {x : Int32} (hl : R.length ≤ 24) : rk R x = -5 ↔ look R x = none := by
  unfold rk
  cases hk : look R x with
  | none => exact ⟨fun _ => rfl, fun _ => rfl⟩
  | some i =>
    obtain ⟨r, hr, -⟩ := look_some hk
    have := (List.getElem?_eq_some_iff.mp hr).1
    exact ⟨fun c => absurd c (nI_m5 (by omega)), fun c => by cases c⟩
theorem rk_or {R : List rw_} {x : Int32} : rk R x = orI (look R x) := by
  unfold rk orI
  cases look R x <;> rfl
theorem isM_memb {R : List rw_} {x : Int32} : isM R (look R x) = (memb R x).isSome := by
  unfold isM memb
  cases hk : look R x with
  | none => rfl
  | some i =>
    dsimp only
    cases hr : R[i]? with
    | none => rfl
    | some r =>
      dsimp only
      cases hg : r.2.1 with
      | none => simp
      | some _ => simp
theorem look_ltF {R : List rw_} {x : Int32} : ∀ i, look R x = some i → i < R.length := fun i h => by
  obtain ⟨r, hr, -⟩ := look_some h
  exact (List.getElem?_eq_some_iff.mp hr).1
theorem AR.mk {σ : sg_} {A : Nat → Int32} (h1 : RA (σ.1.map rf) A) (h2 : A 1 = nI σ.2.2.1) (h3 : A 2 = nI (tsum σ.2.1)) (h4 : A 3 = σ.2.2.2.1) (h5 : A 4 = σ.2.2.2.2) : AR σ A := ⟨h1, h2, h3, h4, h5⟩
section D32
variable {G : g_} {ad : Nat → Nat} {h : hp_} {V : Nat → Nat → Int32} {F : Nat → Int32}
theorem plc_pre {R : List rw_} {n : Nat} {O : Nat → Int32} (hs : srt R) (hk : ∀ r ∈ R, r.1 < 676) (hn : n < 676) (hO : O 0 = nI n) :
    (∀ (j : Nat) (f : Nat → Int32), j < plc R n → (R.map rf)[j]? = some f → f 0 < O 0) ∧ (∀ f, (R.map rf)[plc R n]? = some f → ¬ f 0 < O 0) := by
  have at_ : ∀ (j : Nat) (f : Nat → Int32), (R.map rf)[j]? = some f → ∃ r, R[j]? = some r ∧ f 0 = nI r.1 := by
    intro j f hf
    rw [List.getElem?_map] at hf
    cases hr : R[j]? with
    | none => rw [hr] at hf; cases hf
    | some r => rw [hr] at hf; exact ⟨r, rfl, by rw [← Option.some.inj hf]; rfl⟩
  refine ⟨fun j f hj hf => ?_, fun f hf => ?_⟩
  · obtain ⟨r, r1, r2⟩ := at_ j f hf
    have h1 := plc_lt hj r1
    rw [r2, hO]
    exact (nI_lt' (by omega) (by omega)).mpr h1
  · obtain ⟨r, r1, r2⟩ := at_ _ f hf
    have h1 := plc_ge hs (Nat.le_refl _) r1
    have h2 := hk r (List.mem_of_getElem? r1)
    rw [r2, hO]
    intro c
    have := (nI_lt' (by omega) (by omega)).mp c
    omega
/-- rows with one put in -/
theorem RA_ins {R : List rw_} {r : rw_} {O : Nat → Int32} {A : Nat → Int32} (a : RA ((R.map rf).insertIdx (plc R r.1) O) A) (hO : ∀ k, k < 6 → O k = rf r k) : RA ((insR R r).map rf) A := by
  have hp := plc_le R r.1
  refine a.cong ?_ (fun i f hf => ?_)
  · rw [List.length_map, insR_len, List.length_insertIdx_of_le_length (by rw [List.length_map]; exact hp), List.length_map]
  · unfold insR at hf
    rw [map_ins] at hf
    rcases Nat.lt_trichotomy i (plc R r.1) with q | q | q
    · rw [List.getElem?_insertIdx_of_lt q] at hf ⊢
      exact ⟨f, hf, fun _ _ => rfl⟩
    · subst q
      rw [List.getElem?_insertIdx_self, if_pos (by rw [List.length_map]; exact hp)] at hf ⊢
      exact ⟨O, rfl, fun k hk => by rw [hO k hk, Option.some.inj hf]⟩
    · rw [List.getElem?_insertIdx_of_gt q] at hf ⊢
      exact ⟨f, hf, fun _ _ => rfl⟩
theorem X3_doAdd_ (D : MD ad) {σ : sg_} {x l m : Int32} (W : WS σ) (A : AR σ (V 0)) : Do_ G M_X3_doAdd [.ref (ad 6), .int x, .int l, .int m] (mk_ ad h V F) (RI fun y h' => y = (dAdd σ x l m).1 ∧ ∃ V', h' = mk_ ad h V' F ∧ V04 V V' ∧ AR (dAdd σ x l m).2 (V' 0)) := by
  obtain ⟨hl, hl24⟩ := A.len
  have no : ∀ y, dAdd σ x l m = (y, σ) → RI (fun y h' => y = (dAdd σ x l m).1 ∧ ∃ V', h' = mk_ ad h V' F ∧ V04 V V' ∧ AR (dAdd σ x l m).2 (V' 0)) (.inl (some (.int y))) (mk_ ad h V F) := by
    intro y e
    rw [e]
    exact ⟨_, rfl, rfl, V, rfl, V04.rfl', A⟩
  refine e_X3_doAdd (X3_isName_.use ⟨fun c => ?_, fun c => (X3_in32_ (lo := 1) (hi := 40) (by decide) (by decide)).use ⟨fun c2 => ?_, fun c2 => (X3_in32_ (lo := 0) (hi := 9999) (by decide) (by decide)).use ⟨fun c3 => ⟨cax mk6, (X3_rankOf_ D A).use ⟨fun c4 => ⟨cax mk6, (X3_isFull_ D A W.2.2.2.2.1).use ⟨fun c5 => ⟨cax mk6, ?_⟩, fun c5 => ?_⟩⟩, fun c4 => ?_⟩⟩, fun c3 => ?_⟩⟩⟩)
  · exact no _ (by unfold dAdd; rw [(bI_0 _).mp c]; rfl)
  · exact no _ (by unfold dAdd; rw [(bI_0 _).mp c2]; simp)
  · have h1 := (bI_ne0 _).mp c
    have h2 := (bI_ne0 _).mp c2
    have h3 := (bI_ne0 _).mp c3
    obtain ⟨ex, -, hx⟩ := inr_n (l := 0) (k := 675) (by omega) (by omega) h1
    obtain ⟨el, hl1, hl2⟩ := inr_n (l := 1) (k := 40) (by omega) (by omega) h2
    obtain ⟨em, -, hm2⟩ := inr_n (l := 0) (k := 9999) (by omega) (by omega) h3
    have hin : (inr x 0 675 && (inr l 1 40 && inr m 0 9999)) = true := by rw [h1, h2, h3]; rfl
    have hno := (rk_none hl24).mp c4
    have hnf : ¬ σ.1.length = 4 * σ.2.2.1 := of_decide_eq_false ((bI_0 _).mp c5)
    have hW3 := W.2.2.1
    have hW5 := W.2.2.2.2.1
    have rm := X3_isRoomFor_ (G := G) (h := h) (V := V) (F := F) (l := i2n l) D A W.2.2.2.2.2.2 hl2
    rw [el] at rm
    refine rm.use ⟨fun c6 => ?_, fun c6 => ?_⟩
    · have hfit : tsum σ.2.1 + i2n l ≤ 100 := of_decide_eq_true ((bI_ne0 _).mp c6)
      have hd : dAdd σ x l m = (nI (tsum σ.2.1), (insR σ.1 (i2n x, none, (tsum σ.2.1, i2n l, i2n m)), σ.2.1 ++ [(tsum σ.2.1, i2n l, i2n m)], σ.2.2)) := by
        unfold dAdd addS
        rw [if_pos hin, ex, hno]
        simp only [Option.isSome_none, Bool.false_eq_true, if_false, if_neg hnf, if_neg (show ¬ 100 < tsum σ.2.1 + i2n l by omega)]
      refine ⟨_, gfx mk6 rfl rfl, _, _, 0, mk4 D, ix_nI (j := 0) (by omega) (by omega), ?_⟩
      rw [set4 D]
      refine ⟨_, gfx mk6 rfl rfl, _, _, 1, mk4 D, ix_nI (j := 1) (by omega) (by omega), ?_⟩
      rw [set4 D, up_up, up_at]
      refine ⟨_, gfx mk6 rfl rfl, _, _, 5, mk4 D, ix_nI (j := 5) (by omega) (by omega), ?_⟩
      rw [set4 D, up_up, up_at]
      have hV0 : ∀ f, (up V 4 f) 0 = V 0 := fun f => up_ne _ _ (by omega)
      have hV4 : ∀ f, (up V 4 f) 4 = f := fun f => up_at _ _ _
      have hO0 : (upd (upd (upd (V 4) 0 x) 1 0) 5 (-5)) 0 = nI (i2n x) := by
        rw [upd_ne _ _ (by omega), upd_ne _ _ (by omega), upd_at, ex]
      obtain ⟨p1, p2⟩ := plc_pre (O := upd (upd (upd (V 4) 0 x) 1 0) 5 (-5)) W.1 (fun r hr => (W.2.1 r hr).1) (show i2n x < 676 by omega) hO0
      have hp := plc_le σ.1 (i2n x)
      refine ⟨cax mk6, (X3_putsIn_ (W := σ.1.map rf) (p := plc σ.1 (i2n x)) D (by rw [hV0]; exact A.1) (by rw [List.length_map]; omega) (by rw [List.length_map]; exact hp) (by rw [hV4]; exact p1) (by rw [hV4]; exact p2)).ri ?_⟩
      rintro _ h9 - - ⟨rfl, V1, e9, v1, R1, H1⟩
      rw [e9]; clear e9
      rw [hV4] at R1
      rw [hV0] at H1
      have hget : ((σ.1.map rf).insertIdx (plc σ.1 (i2n x)) (upd (upd (upd (V 4) 0 x) 1 0) 5 (-5)))[plc σ.1 (i2n x)]? = some (upd (upd (upd (V 4) 0 x) 1 0) 5 (-5)) := by
        rw [List.getElem?_insertIdx_self, if_pos (by rw [List.length_map]; exact hp)]
      refine ⟨cax mk6, (X3_laysText_ D R1 hget).rv ?_⟩
      rintro h10 - - ⟨V2, e10, v2, R2, q1, q2, q3, q4⟩
      rw [e10]; clear e10
      have hrow : ∀ k, k < 6 → rtx (upd (upd (upd (V 4) 0 x) 1 0) 5 (-5)) (V1 0 2) l m k = rf (i2n x, none, (tsum σ.2.1, i2n l, i2n m)) k := by
        rw [H1.2.1, A.2.2.1]
        refine lt6 ?_ ?_ ?_ ?_ ?_ ?_
        · show upd _ _ _ _ = nI (i2n x)
          rw [upd_ne _ _ (by omega), upd_ne _ _ (by omega), upd_ne _ _ (by omega)]; exact hO0
        · show upd _ _ _ _ = 0
          rw [upd_ne _ _ (by omega), upd_ne _ _ (by omega), upd_ne _ _ (by omega), upd_ne _ _ (by omega), upd_at]
        · show upd _ _ _ _ = nI (tsum σ.2.1)
          rw [upd_ne _ _ (by omega), upd_ne _ _ (by omega), upd_at]
        · show upd _ _ _ _ = nI (i2n l)
          rw [upd_ne _ _ (by omega), upd_at, el]
        · show upd _ _ _ _ = nI (i2n m)
          rw [upd_at, em]
        · show upd _ _ _ _ = -5
          rw [upd_ne _ _ (by omega), upd_ne _ _ (by omega), upd_ne _ _ (by omega), upd_at]
      have hset : (((σ.1.map rf).insertIdx (plc σ.1 (i2n x)) (upd (upd (upd (V 4) 0 x) 1 0) 5 (-5))).set (plc σ.1 (i2n x)) (rtx (upd (upd (upd (V 4) 0 x) 1 0) 5 (-5)) (V1 0 2) l m)) = (σ.1.map rf).insertIdx (plc σ.1 (i2n x)) (rtx (upd (upd (upd (V 4) 0 x) 1 0) 5 (-5)) (V1 0 2) l m) := by
        apply List.ext_getElem?
        intro q
        have hlen : ∀ g : Nat → Int32, ((σ.1.map rf).insertIdx (plc σ.1 (i2n x)) g).length = σ.1.length + 1 := fun g => by rw [List.length_insertIdx_of_le_length (by rw [List.length_map]; exact hp), List.length_map]
        rw [List.getElem?_set]
        by_cases hq : plc σ.1 (i2n x) = q
        · rw [if_pos hq, if_pos (by rw [hlen]; omega), ← hq, List.getElem?_insertIdx_self, if_pos (by rw [List.length_map]; exact hp)]
        · rw [if_neg hq, List.getElem?_insertIdx, List.getElem?_insertIdx]
          by_cases h1 : q < plc σ.1 (i2n x)
          · rw [if_pos h1, if_pos h1]
          · rw [if_neg h1, if_neg h1, if_neg (by omega), if_neg (by omega)]
      rw [hset] at R2
      have R3 : RA ((insR σ.1 (i2n x, none, (tsum σ.2.1, i2n l, i2n m))).map rf) (V2 0) := RA_ins (r := (i2n x, none, (tsum σ.2.1, i2n l, i2n m))) R2 hrow
      refine ⟨cax mk6, (X3_of_ (w := 2) D (by omega)).use ⟨_, rfl, ?_, V2, rfl, ((V04.rfl'.up4 _).tr v1).tr v2, ?_⟩⟩
      · rw [hd]
        have hg2 : ((σ.1.map rf).insertIdx (plc σ.1 (i2n x)) (rtx (upd (upd (upd (V 4) 0 x) 1 0) 5 (-5)) (V1 0 2) l m))[plc σ.1 (i2n x)]? = some (rtx (upd (upd (upd (V 4) 0 x) 1 0) 5 (-5)) (V1 0 2) l m) := by
          rw [List.getElem?_insertIdx_self, if_pos (by rw [List.length_map]; exact hp)]
        rw [R2.2.2 _ _ hg2 2 (by omega), hrow 2 (by omega)]
        rfl
      · rw [hd]
        refine AR.mk R3 ?_ ?_ ?_ ?_
        · rw [q1, H1.1, A.2.1]
        · rw [q2, H1.2.1, A.2.2.1]
          show _ = nI (tsum (σ.2.1 ++ _))
          rw [tsum_snoc, ← nI_add', el]
        · rw [q3, H1.2.2.1, A.2.2.2.1]
        · rw [q4, H1.2.2.2, A.2.2.2.2]
    · have hfit : ¬ tsum σ.2.1 + i2n l ≤ 100 := of_decide_eq_false ((bI_0 _).mp (Classical.not_not.mp c6))
      refine no _ ?_
      unfold dAdd addS
      rw [if_pos hin, ex, hno]
      simp only [Option.isSome_none, Bool.false_eq_true, if_false, if_neg hnf, if_pos (show 100 < tsum σ.2.1 + i2n l by omega)]
  · have h1 := (bI_ne0 _).mp c
    have h2 := (bI_ne0 _).mp c2
    have h3 := (bI_ne0 _).mp c3
    obtain ⟨ex, -, hx⟩ := inr_n (l := 0) (k := 675) (by omega) (by omega) h1
    have hin : (inr x 0 675 && (inr l 1 40 && inr m 0 9999)) = true := by rw [h1, h2, h3]; rfl
    have hno := (rk_none hl24).mp c4
    have hf : σ.1.length = 4 * σ.2.2.1 := of_decide_eq_true ((bI_ne0 _).mp c5)
    refine no _ ?_
    unfold dAdd addS
    rw [if_pos hin, ex, hno]
    simp only [Option.isSome_none, Bool.false_eq_true, if_false, if_pos hf]
  · have h1 := (bI_ne0 _).mp c
    have h2 := (bI_ne0 _).mp c2
    have h3 := (bI_ne0 _).mp c3
    obtain ⟨ex, -, hx⟩ := inr_n (l := 0) (k := 675) (by omega) (by omega) h1
    have hin : (inr x 0 675 && (inr l 1 40 && inr m 0 9999)) = true := by rw [h1, h2, h3]; rfl
    refine no _ ?_
    unfold dAdd addS
    rw [if_pos hin, ex]
    have : (look σ.1 x).isSome = true := by
      cases hk : look σ.1 x with
      | none => exact absurd ((rk_none hl24).mpr hk) c4
      | some _ => rfl
    simp only [this, if_true]
  · exact no _ (by unfold dAdd; rw [(bI_0 _).mp (Classical.not_not.mp c3)]; simp)
theorem X3_doAlias_ (D : MD ad) {σ : sg_} {a x : Int32} (W : WS σ) (A : AR σ (V 0)) : Do_ G M_X3_doAlias [.ref (ad 6), .int a, .int x] (mk_ ad h V F) (RI fun y h' => y = (dAli σ a x).1 ∧ ∃ V', h' = mk_ ad h V' F ∧ V04 V V' ∧ AR (dAli σ a x).2 (V' 0)) := by
  obtain ⟨hl, hl24⟩ := A.len
  have hW3 := W.2.2.1
  have hW5 := W.2.2.2.2.1
  have no : ∀ y, dAli σ a x = (y, σ) → RI (fun y h' => y = (dAli σ a x).1 ∧ ∃ V', h' = mk_ ad h V' F ∧ V04 V V' ∧ AR (dAli σ a x).2 (V' 0)) (.inl (some (.int y))) (mk_ ad h V F) := by
    intro y e
    rw [e]
    exact ⟨_, rfl, rfl, V, rfl, V04.rfl', A⟩
  have mem1 := X3_isMember_ (G := G) (h := h) (F := F) D A (look_ltF (R := σ.1) (x := x))
  have mem2 := X3_isMember_ (G := G) (h := h) (F := F) D A (look_ltF (R := σ.1) (x := a))
  rw [← rk_or, isM_memb] at mem1 mem2
  -- the new one is put in, what is to be taken is out
  have put : ∀ (r : rw_) (R' : List rw_) (V1 : Nat → Nat → Int32), memb σ.1 x = some r → inr a 0 675 = true → V04 V V1 → RA (R'.map rf) (V1 0) → hd4 (V 0) (V1 0) → R'.length ≤ 23 → srt R' → (∀ q ∈ R', q.1 < 676) → dAli σ a x = (nI r.2.2.1, (insR R' (i2n a, some (i2n x), r.2.2), σ.2)) →
      Go_ G M_X3_doAlias 136 [some (.ref (ad 6)), some (.int a), some (.int x), none, none, some (.int (nI r.2.2.1)), some (.int (nI r.2.2.2.1)), some (.int (nI r.2.2.2.2)), none] [] (mk_ ad h V1 F) (RI fun y h' => y = (dAli σ a x).1 ∧ ∃ V', h' = mk_ ad h V' F ∧ V04 V V' ∧ AR (dAli σ a x).2 (V' 0)) := by
    intro r R' V1 hm hin v1 RA1 H1 hR' hs' hk' hd
    obtain ⟨ea, -, ha⟩ := inr_n (l := 0) (k := 675) (by omega) (by omega) hin
    obtain ⟨hm1, hm2, hm3⟩ := memb_mem hm
    have hxr := (W.2.1 r hm1).1
    have ex : nI (i2n x) = x := by
      rw [← hm3]
      unfold i2n
      rw [nI_toInt (by omega)]
      simp
    have hV0 : ∀ f, (up V1 4 f) 0 = V1 0 := fun f => up_ne _ _ (by omega)
    have hV4 : ∀ f, (up V1 4 f) 4 = f := fun f => up_at _ _ _
    refine w_X3_doAlias_136 ⟨_, gfx mk6 rfl rfl, _, _, 0, mk4 D, ix_nI (j := 0) (by omega) (by omega), ?_⟩
    rw [set4 D]
    refine ⟨_, gfx mk6 rfl rfl, _, _, 1, mk4 D, ix_nI (j := 1) (by omega) (by omega), ?_⟩
    rw [set4 D, up_up, up_at]
    refine ⟨_, gfx mk6 rfl rfl, _, _, 2, mk4 D, ix_nI (j := 2) (by omega) (by omega), ?_⟩
    rw [set4 D, up_up, up_at]
    refine ⟨_, gfx mk6 rfl rfl, _, _, 3, mk4 D, ix_nI (j := 3) (by omega) (by omega), ?_⟩
    rw [set4 D, up_up, up_at]
    refine ⟨_, gfx mk6 rfl rfl, _, _, 4, mk4 D, ix_nI (j := 4) (by omega) (by omega), ?_⟩
    rw [set4 D, up_up, up_at]
    refine ⟨_, gfx mk6 rfl rfl, _, _, 5, mk4 D, ix_nI (j := 5) (by omega) (by omega), ?_⟩
    rw [set4 D, up_up, up_at]
    have hrow : ∀ k, k < 6 → (upd (upd (upd (upd (upd (upd (V1 4) 0 a) 1 1) 2 (nI r.2.2.1)) 3 (nI r.2.2.2.1)) 4 (nI r.2.2.2.2)) 5 x) k = rf (i2n a, some (i2n x), r.2.2) k := by
      refine lt6 ?_ ?_ ?_ ?_ ?_ ?_
      · show _ = nI (i2n a)
        rw [upd_ne _ _ (by omega), upd_ne _ _ (by omega), upd_ne _ _ (by omega), upd_ne _ _ (by omega), upd_ne _ _ (by omega), upd_at, ea]
      · show _ = 1
        rw [upd_ne _ _ (by omega), upd_ne _ _ (by omega), upd_ne _ _ (by omega), upd_ne _ _ (by omega), upd_at]
      · show _ = nI r.2.2.1
        rw [upd_ne _ _ (by omega), upd_ne _ _ (by omega), upd_ne _ _ (by omega), upd_at]
      · show _ = nI r.2.2.2.1
        rw [upd_ne _ _ (by omega), upd_ne _ _ (by omega), upd_at]
      · show _ = nI r.2.2.2.2
        rw [upd_ne _ _ (by omega), upd_at]
      · show _ = nI (i2n x)
        rw [upd_at, ex]
    generalize upd (upd (upd (upd (upd (upd (V1 4) 0 a) 1 1) 2 (nI r.2.2.1)) 3 (nI r.2.2.2.1)) 4 (nI r.2.2.2.2)) 5 x = O at *
    obtain ⟨p1, p2⟩ := plc_pre (O := O) (n := i2n a) hs' hk' (by omega) (hrow 0 (by omega))
    have hp := plc_le R' (i2n a)
    refine ⟨cax mk6, (X3_putsIn_ (W := R'.map rf) (p := plc R' (i2n a)) D (by rw [hV0]; exact RA1) (by rw [List.length_map]; exact hR') (by rw [List.length_map]; exact hp) (by rw [hV4]; exact p1) (by rw [hV4]; exact p2)).ri ?_⟩
    rintro _ h9 - - ⟨rfl, V2, e9, v2, R2, H2⟩
    rw [e9]; clear e9
    rw [hV4] at R2
    rw [hV0] at H2
    rw [hd]
    refine ⟨_, rfl, rfl, V2, rfl, (v1.up4 O).tr v2, AR.mk (RA_ins (r := (i2n a, some (i2n x), r.2.2)) R2 hrow) ?_ ?_ ?_ ?_⟩
    · rw [H2.1, H1.1, A.2.1]
    · rw [H2.2.1, H1.2.1, A.2.2.1]
    · rw [H2.2.2.1, H1.2.2.1, A.2.2.2.1]
    · rw [H2.2.2.2, H1.2.2.2, A.2.2.2.2]
  have hkR : ∀ q ∈ σ.1, q.1 < 676 := fun q hq => (W.2.1 q hq).1
  refine e_X3_doAlias ⟨cax mk6, (X3_rankOf_ D A).use ⟨cax mk6, mem1.use ⟨fun c1 => X3_isName_.use ⟨fun c2 => ⟨cax mk6, (X3_rankOf_ D A).use ⟨cax mk6, mem2.use ⟨fun c3 => ?_, fun c3 => ?_⟩⟩⟩, fun c2 => ?_⟩, fun c1 => ?_⟩⟩⟩
  · -- neither taken nor unknown
    have hms := (bI_ne0 _).mp c1
    have hin := (bI_ne0 _).mp c2
    obtain ⟨ea, -, ha⟩ := inr_n (l := 0) (k := 675) (by omega) (by omega) hin
    cases hm : memb σ.1 x with
    | none => rw [hm] at hms; cases hms
    | some r =>
      obtain ⟨hm1, hm2, hm3⟩ := memb_mem hm
      have hxr := (W.2.1 r hm1).1
      have ex : nI (i2n x) = x ∧ i2n x < 676 := by
        rw [← hm3]
        unfold i2n
        rw [nI_toInt (by omega)]
        exact ⟨by simp, by omega⟩
      have hlx : ∃ i, look σ.1 x = some i ∧ σ.1[i]? = some r := by
        unfold memb at hm
        cases hk : look σ.1 x with
        | none => rw [hk] at hm; cases hm
        | some i =>
          rw [hk] at hm
          dsimp only at hm
          cases hr : σ.1[i]? with
          | none => rw [hr] at hm; cases hm
          | some r' =>
            rw [hr] at hm
            dsimp only at hm
            by_cases hg : r'.2.1.isSome = true
            · rw [if_pos hg] at hm; cases hm
            · rw [if_neg hg] at hm
              exact ⟨i, rfl, by rw [← Option.some.inj hm]; exact hr⟩
      obtain ⟨i, hki, hri⟩ := hlx
      have hil := look_ltF i hki
      have erk : rk σ.1 x = nI i := by unfold rk; rw [hki]
      have hunf : ∀ z : Int32 × sg_, (match look σ.1 (nI (i2n a)) with
          | none => if σ.1.length = 4 * σ.2.2.1 then (-6, σ) else (nI r.2.2.1, (insR σ.1 (i2n a, some (i2n x), r.2.2), σ.2))
          | some j => match σ.1[j]? with
            | none => (-1, σ)
            | some q => if q.2.1.isSome then (if q.2.2.1 = r.2.2.1 ∧ q.2.1 = some (i2n x) then (-5, σ) else (nI r.2.2.1, (insR (σ.1.eraseIdx j) (i2n a, some (i2n x), r.2.2), σ.2))) else (-7, σ)) = z → dAli σ a x = z := by
        intro z hz
        unfold dAli aliasS
        rw [hm]
        dsimp only
        rw [if_pos hin, ex.1, hm]
        exact hz
      rw [ea] at hunf
      -- from the reading of the text on
      have go99 : ∀ (o : Option Nat), look σ.1 a = o → (∀ j, o = some j → ∃ q, σ.1[j]? = some q ∧ dAli σ a x = (nI r.2.2.1, (insR (σ.1.eraseIdx j) (i2n a, some (i2n x), r.2.2), σ.2))) → (o = none → ¬ σ.1.length = 4 * σ.2.2.1 ∧ dAli σ a x = (nI r.2.2.1, (insR σ.1 (i2n a, some (i2n x), r.2.2), σ.2))) →
          Go_ G M_X3_doAlias 99 [some (.ref (ad 6)), some (.int a), some (.int x), some (.int (rk σ.1 x)), some (.int (rk σ.1 a)), none, none, none, none] [] (mk_ ad h V F) (RI fun y h' => y = (dAli σ a x).1 ∧ ∃ V', h' = mk_ ad h V' F ∧ V04 V V' ∧ AR (dAli σ a x).2 (V' 0)) := by
        intro o ho h1 h2
        rw [erk]
        refine w_X3_doAlias_99 ⟨cax mk6, (X3_of_ (w := 2) D (by omega)).use ⟨cax mk6, (X3_of_ (w := 3) D (by omega)).use ⟨cax mk6, (X3_of_ (w := 4) D (by omega)).use ?_⟩⟩⟩
        rw [A.at (k := 2) hri (by omega), A.at (k := 3) hri (by omega), A.at (k := 4) hri (by omega)]
        refine ⟨fun c4 => ?_, fun c4 => ?_⟩
        · have hno := (rk_none hl24).mp c4
          obtain ⟨g1, g2⟩ := h2 (by rw [← ho]; exact hno)
          exact put r σ.1 V hm hin V04.rfl' A.1 ⟨rfl, rfl, rfl, rfl⟩ (by omega) W.1 hkR g2
        · cases o with
          | none => exact absurd ((rk_none hl24).mpr ho) c4
          | some j =>
            obtain ⟨q, g1, g2⟩ := h1 j rfl
            have erj : rk σ.1 a = nI j := by unfold rk; rw [ho]
            have hjl := look_ltF j ho
            rw [erj]
            refine ⟨cax mk6, (X3_takesOut_ (W := σ.1.map rf) (i := j) D A.1 (by rw [List.getElem?_map, g1]; rfl)).rv ?_⟩
            rintro h9 - - ⟨V1, e9, v1, R1, H1, -⟩
            rw [e9]; clear e9
            rw [← map_ers] at R1
            exact put r (σ.1.eraseIdx j) V1 hm hin v1 R1 H1 (by rw [List.length_eraseIdx, if_pos hjl]; omega) (srt_ers W.1) (fun q hq => hkR q (mem_ers hq)) g2
      have hnm := (bI_0 _).mp c3
      have go62 : (∀ j q, look σ.1 a = some j → σ.1[j]? = some q → q.2.1.isSome = true) → (look σ.1 a = none → ¬ σ.1.length = 4 * σ.2.2.1) → Go_ G M_X3_doAlias 62 [some (.ref (ad 6)), some (.int a), some (.int x), some (.int (rk σ.1 x)), some (.int (rk σ.1 a)), none, none, none, none] [] (mk_ ad h V F) (RI fun y h' => y = (dAli σ a x).1 ∧ ∃ V', h' = mk_ ad h V' F ∧ V04 V V' ∧ AR (dAli σ a x).2 (V' 0)) := by
        intro hals hroom
        refine w_X3_doAlias_62 ⟨fun c4 => ?_, fun c4 => ?_⟩
        · have hno := (rk_none hl24).mp c4
          refine go99 none hno (fun j hj => by cases hj) (fun _ => ⟨hroom hno, hunf _ ?_⟩)
          rw [hno]
          dsimp only
          rw [if_neg (hroom hno)]
        · cases hka : look σ.1 a with
          | none => exact absurd ((rk_none hl24).mpr hka) c4
          | some j =>
            have hjl := look_ltF j hka
            have hj : σ.1[j]? = some σ.1[j] := List.getElem?_eq_getElem hjl
            have erj : rk σ.1 a = nI j := by unfold rk; rw [hka]
            have hsome := hals j _ hka hj
            have okq := W.2.1 σ.1[j] (List.mem_of_getElem? hj)
            have okr := W.2.1 r hm1
            have tq : ∀ q ∈ σ.1, q.2.2.1 < 2 ^ 31 := by
              intro q hq
              obtain ⟨t, ht⟩ := List.getElem?_of_mem (W.2.1 q hq).2.2
              have := chn_at W.2.2.2.2.2.1 ht
              have := W.2.2.2.2.2.2
              omega
            have g99 : ¬ (σ.1[j].2.2.1 = r.2.2.1 ∧ σ.1[j].2.1 = some (i2n x)) → Go_ G M_X3_doAlias 99 [some (.ref (ad 6)), some (.int a), some (.int x), some (.int (rk σ.1 x)), some (.int (rk σ.1 a)), none, none, none, none] [] (mk_ ad h V F) (RI fun y h' => y = (dAli σ a x).1 ∧ ∃ V', h' = mk_ ad h V' F ∧ V04 V V' ∧ AR (dAli σ a x).2 (V' 0)) := by
              intro hnot
              refine go99 (some j) hka (fun j' hj' => ?_) (fun e => by cases e)
              cases hj'
              refine ⟨_, hj, hunf _ ?_⟩
              rw [hka]
              dsimp only
              rw [hj]
              dsimp only
              rw [if_pos hsome, if_neg hnot]
            rw [erj, erk] at g99 ⊢
            refine ⟨cax mk6, (X3_of_ (w := 2) D (by omega)).use ⟨cax mk6, (X3_of_ (w := 2) D (by omega)).use ?_⟩⟩
            rw [A.at (k := 2) hj (by omega), A.at (k := 2) hri (by omega)]
            refine ⟨fun c5 => g99 (fun q => c5 (by show nI _ = nI _; rw [q.1])), fun c5 => ⟨cax mk6, (X3_of_ (w := 5) D (by omega)).use ?_⟩⟩
            rw [A.at (k := 5) hj (by omega)]
            have e5 : σ.1[j].2.2.1 = r.2.2.1 := (nI_eq' (tq _ (List.mem_of_getElem? hj)) (tq _ hm1)).mp (Classical.not_not.mp c5)
            refine ⟨fun c6 => g99 (fun q => c6 ?_), fun c6 => ?_⟩
            · show gvI _ = x
              rw [(given_x okq.2.1 ex.2).mpr q.2, ex.1]
            · have h6 : gvI σ.1[j].2.1 = x := Classical.not_not.mp c6
              rw [← ex.1] at h6
              refine no _ (hunf _ ?_)
              rw [hka]
              dsimp only
              rw [hj]
              dsimp only
              rw [if_pos hsome, if_pos ⟨e5, (given_x okq.2.1 ex.2).mp h6⟩]
      have hals : ∀ j q, look σ.1 a = some j → σ.1[j]? = some q → q.2.1.isSome = true := by
        intro j q hj hq
        unfold memb at hnm
        rw [hj] at hnm
        dsimp only at hnm
        rw [hq] at hnm
        dsimp only at hnm
        by_cases hg : q.2.1.isSome = true
        · exact hg
        · rw [if_neg hg] at hnm; cases hnm
      refine ⟨fun c4 => go62 hals (fun e => absurd ((rk_none hl24).mpr e) c4), fun c4 => ⟨cax mk6, (X3_isFull_ D A W.2.2.2.2.1).use ⟨fun c5 => go62 hals (fun _ => of_decide_eq_false ((bI_0 _).mp c5)), fun c5 => ?_⟩⟩⟩
      have hno := (rk_none hl24).mp (Classical.not_not.mp c4)
      refine no _ (hunf _ ?_)
      rw [hno]
      dsimp only
      rw [if_pos (of_decide_eq_true ((bI_ne0 _).mp c5))]
  · -- taken
    have hms := (bI_ne0 _).mp c1
    have hin := (bI_ne0 _).mp c2
    obtain ⟨ea, -, ha⟩ := inr_n (l := 0) (k := 675) (by omega) (by omega) hin
    have hma := (bI_ne0 _).mp c3
    refine no _ ?_
    unfold dAli aliasS
    cases hm : memb σ.1 x with
    | none => rw [hm] at hms; cases hms
    | some r =>
      obtain ⟨hm1, hm2, hm3⟩ := memb_mem hm
      have hxr := (W.2.1 r hm1).1
      have ex : nI (i2n x) = x := by
        rw [← hm3]
        unfold i2n
        rw [nI_toInt (by omega)]
        simp
      dsimp only
      rw [if_pos hin, ex, hm, ea]
      dsimp only
      unfold memb at hma
      cases hk : look σ.1 a with
      | none => rw [hk] at hma; cases hma
      | some j =>
        rw [hk] at hma
        dsimp only at hma ⊢
        cases hq : σ.1[j]? with
        | none => rw [hq] at hma; cases hma
        | some q =>
          rw [hq] at hma
          dsimp only at hma ⊢
          by_cases hg : q.2.1.isSome = true
          · rw [if_pos hg] at hma; cases hma
          · rw [if_neg hg]
  · have hms := (bI_ne0 _).mp c1
    refine no _ ?_
    unfold dAli
    cases hm : memb σ.1 x with
    | none => rw [hm] at hms; cases hms
    | some r =>
      dsimp only
      rw [(bI_0 _).mp (Classical.not_not.mp c2)]
      rfl
  · have hms := (bI_0 _).mp (Classical.not_not.mp c1)
    refine no _ ?_
    unfold dAli
    cases hm : memb σ.1 x with
    | none => rfl
    | some r => rw [hm] at hms; cases hms
end D32
