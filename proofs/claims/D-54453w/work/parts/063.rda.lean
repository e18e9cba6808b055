/-! SPECS 13: an addition, all additions -/
set_option maxRecDepth 100000
/-- an array that holds an addition -/
def tcell (h : hp_) (a : Nat) (t : Nat × Nat × Nat) : Prop := ∃ g, hget h a = some (eI 3 g) ∧ g 0 = nI t.1 ∧ g 1 = nI t.2.1 ∧ g 2 = nI t.2.2
theorem K1.setn {r a : Nat} {h h1 : hp_} {e : e_} (hw : hwf h) (k : K1 r h h1) (ha : hsz h ≤ a) : K1 r h (hset h1 a e) := fun q x hq z => by
  have := hlt hw z
  rw [hset_ne _ _ (by omega)]
  exact k q x hq z
section D13
variable {G : g_} {h : hp_} {r p pl : Nat} {X : List Nat}
def AX (X : List Nat) (pl r p : Nat) (h : hp_) : o_ → hp_ → Prop :=
  RX (RN fun y h' => ∃ t, (pAdd X pl).1 = some t ∧ y = hsz h ∧ tcell h' y t ∧ RD h' r p (pAdd X pl).2 ∧ K1 r h h' ∧ hm h' ≤ hm h + 4) (fun q h' => (pAdd X pl).1 = none ∧ hget h' q = some (eO 9 [.int (nI (pAdd X pl).2)]) ∧ K1 r h h' ∧ hm h' ≤ hm h + 12)
theorem axr {h' : hp_} {q : Nat} (t : Nat × Nat × Nat) (e : pAdd X pl = (some t, q)) (h2 : tcell h' (hsz h) t) (h3 : RD h' r p q) (h4 : K1 r h h') (h5 : hm h' ≤ hm h + 4) : AX X pl r p h (.inl (some (.ref (hsz h)))) h' := ⟨_, rfl, t, by rw [e], rfl, h2, by rw [e]; exact h3, h4, h5⟩
theorem axf {h' : hp_} {y q : Nat} (e : pAdd X pl = (none, q)) (h3 : hget h' y = some (eO 9 [.int (nI q)])) (h4 : K1 r h h') (h5 : hm h' ≤ hm h + 12) : AX X pl r p h (.inr y) h' := ⟨by rw [e], by rw [e]; exact h3, h4, h5⟩
theorem X8_addition_ (hw : hwf h) (S : SB h p X) (R : RD h r p pl) (hl : pl ≤ X.length) : Do_ G M_X8_addition [.ref r] h (AX X pl r p h) := by
  have R0 : hget h r = some (eO 8 [.int (nI pl), .ref p]) := R
  have hr := hlt hw R0
  have hwa : hwf (hnew h (eI 3 fun _ => 0) 3) := hwf_new hw _ _
  have Ra : RD (hnew h (eI 3 fun _ => 0) 3) r p pl := hnew_old hw R0
  have ka : K1 r h (hnew h (eI 3 fun _ => 0) 3) := K1.new hw
  have hma : hm (hnew h (eI 3 fun _ => 0) 3) = hm h + 4 := hm_new _ _ _
  have aa : hget (hnew h (eI 3 fun _ => 0) 3) (hsz h) = some (eI 3 fun _ => 0) := hnew_at _ _ _
  have hrn : hsz h ≠ r := by omega
  refine e_X8_addition ⟨3, rfl, by omega, cax Ra, Do_.rxi (X8_name_ hwa (S.k1 R ka) Ra hl) ?_ ?_⟩
  · rintro _ h3 w3 - ⟨nm, n1, rfl, R3, k3, m3⟩
    have eN : pName X pl = (some nm, (pName X pl).2) := Prod.ext n1 rfl
    have hql := (pName_ok hl).2.1
    generalize (pName X pl).2 = q at eN R3 hql
    have a3 := k3 _ _ hrn aa
    have K3 : K1 r h (hset h3 (hsz h) (eI 3 (upd (fun _ => 0) 0 (nI nm)))) := K1.setn hw (ka.tr k3) (Nat.le_refl _)
    have w4 : hwf (hset h3 (hsz h) (eI 3 (upd (fun _ => 0) 0 (nI nm)))) := hwf_set w3 _ (hlt w3 a3)
    have R4 : RD (hset h3 (hsz h) (eI 3 (upd (fun _ => 0) 0 (nI nm)))) r p q := by
      show hget _ _ = _
      rw [hset_ne _ _ (by omega)]; exact R3
    refine ⟨3, _, 0, a3, ix_nI (j := 0) (by omega) (by omega), cax R4, (X8_takes_ (c := 62) (S.k1 R K3) R4 hql (by omega)).ri ?_⟩
    rintro _ h8 w8 - ⟨rfl, R8, k8, m8⟩
    have a8 := k8 _ _ hrn (hset_at _ _ _)
    have m8 : hm h8 = hm h3 := by rw [m8, hm_set]
    have K8 := K3.tr k8
    refine ⟨fun c => ?_, fun c => ?_⟩
    · have s1 := (bI_0 _).mp c
      rw [s1] at R8
      have R8 : RD h8 r p q := R8
      refine ⟨cax R8, (X8_takes_ (c := 61) (S.k1 R K8) R8 hql (by omega)).ri ?_⟩
      rintro _ h10 w10 - ⟨rfl, R10, k10, m10⟩
      have a10 := k10 _ _ hrn a8
      have K10 := K8.tr k10
      refine ⟨fun c2 => ?_, fun c2 => ?_⟩
      · have s2 := (bI_ne0 _).mp c2
        rw [s2] at R10
        have R10 : RD h10 r p (q + 1) := R10
        have hq1 := see_lt s2
        refine ⟨cax R10, Do_.rxi (X8_number_ (least := 49) (most := 40) w10 (S.k1 R K10) R10 hq1 (by omega) (by omega) (by omega) (by omega)) ?_ ?_⟩
        · rintro _ h12 w12 - ⟨ln, l1, rfl, R12, k12, m12⟩
          have eL : pNum X 49 40 (q + 1) = (some ln, (pNum X 49 40 (q + 1)).2) := Prod.ext l1 rfl
          have hq2 := (pNum_ok (X := X) (least := 49) (most := 40) (pl := q + 1) hq1 (by omega) (by omega)).2.1
          generalize (pNum X 49 40 (q + 1)).2 = q2 at eL R12 hq2
          have a12 := k12 _ _ hrn a10
          have K12 := K10.tr k12
          have K13 : K1 r h (hset h12 (hsz h) (eI 3 (upd (upd (fun _ => 0) 0 (nI nm)) 1 (nI ln)))) := K1.setn hw K12 (Nat.le_refl _)
          have w13 : hwf (hset h12 (hsz h) (eI 3 (upd (upd (fun _ => 0) 0 (nI nm)) 1 (nI ln)))) := hwf_set w12 _ (hlt w12 a12)
          have R13 : RD (hset h12 (hsz h) (eI 3 (upd (upd (fun _ => 0) 0 (nI nm)) 1 (nI ln)))) r p q2 := by
            show hget _ _ = _
            rw [hset_ne _ _ (by omega)]; exact R12
          refine ⟨3, _, 1, a12, ix_nI (j := 1) (by omega) (by omega), cax R13, (X8_takes_ (c := 44) (S.k1 R K13) R13 hq2 (by omega)).ri ?_⟩
          rintro _ h17 w17 - ⟨rfl, R17, k17, m17⟩
          have a17 := k17 _ _ hrn (hset_at _ _ _)
          have m17 : hm h17 = hm h12 := by rw [m17, hm_set]
          have K17 := K13.tr k17
          refine ⟨fun c3 => ?_, fun c3 => ?_⟩
          · have s3 := (bI_0 _).mp c3
            rw [s3] at R17
            have R17 : RD h17 r p q2 := R17
            refine ⟨3, _, 2, a17, ix_nI (j := 2) (by omega) (by omega), axr (nm, ln, 0) (q := q2) ?_ ⟨_, hset_at _ _ _, rfl, rfl, rfl⟩ ?_ (K1.setn hw K17 (Nat.le_refl _)) ?_⟩
            · unfold pAdd; rw [eN]; simp only [s1, s2, eL, s3]; rfl
            · show hget _ _ = _
              rw [hset_ne _ _ (by omega)]; exact R17
            · rw [hm_set]; omega
          · have s3 := (bI_ne0 _).mp c3
            rw [s3] at R17
            have R17 : RD h17 r p (q2 + 1) := R17
            have hq3 := see_lt s3
            refine ⟨cax R17, Do_.rxi (X8_number_ (least := 48) (most := 9999) w17 (S.k1 R K17) R17 hq3 (by omega) (by omega) (by omega) (by omega)) ?_ ?_⟩
            · rintro _ h22 w22 - ⟨mq, l2, rfl, R22, k22, m22⟩
              have eM : pNum X 48 9999 (q2 + 1) = (some mq, (pNum X 48 9999 (q2 + 1)).2) := Prod.ext l2 rfl
              generalize (pNum X 48 9999 (q2 + 1)).2 = q3 at eM R22
              have a22 := k22 _ _ hrn a17
              refine ⟨3, _, 2, a22, ix_nI (j := 2) (by omega) (by omega), axr (nm, ln, mq) (q := q3) ?_ ⟨_, hset_at _ _ _, rfl, rfl, rfl⟩ ?_ (K1.setn hw (K17.tr k22) (Nat.le_refl _)) ?_⟩
              · unfold pAdd; rw [eN]; simp only [s1, s2, eL, s3, eM]; rfl
              · show hget _ _ = _
                rw [hset_ne _ _ (by omega)]; exact R22
              · rw [hm_set]; omega
            · rintro y h22 w22 - ⟨l2, f1, k22, m22⟩
              have eM : pNum X 48 9999 (q2 + 1) = (none, (pNum X 48 9999 (q2 + 1)).2) := Prod.ext l2 rfl
              generalize (pNum X 48 9999 (q2 + 1)).2 = q3 at eM f1
              refine ⟨cax f1, axf (q := q3) ?_ f1 (K17.tr k22) (by omega)⟩
              unfold pAdd; rw [eN]; simp only [s1, s2, eL, s3, eM]; rfl
        · rintro y h12 w12 - ⟨l1, f1, k12, m12⟩
          have eL : pNum X 49 40 (q + 1) = (none, (pNum X 49 40 (q + 1)).2) := Prod.ext l1 rfl
          generalize (pNum X 49 40 (q + 1)).2 = q2 at eL f1
          refine ⟨cax f1, axf (q := q2) ?_ f1 (K10.tr k12) (by omega)⟩
          unfold pAdd; rw [eN]; simp only [s1, s2, eL]; rfl
      · have s2 := (bI_0 _).mp (Classical.not_not.mp c2)
        rw [s2] at R10
        have R10 : hget h10 r = some (eO 8 [.int (nI q), .ref p]) := R10
        refine ⟨_, gfx R10 rfl rfl, cax (hnew_at _ _ _), axf (q := q) ?_ (hnew_at _ _ _) (K10.tr (K1.new w10)) (by rw [hm_new]; omega)⟩
        unfold pAdd; rw [eN]; simp only [s1, s2]; rfl
    · have s1 := (bI_ne0 _).mp c
      rw [s1] at R8
      have R8 : RD h8 r p (q + 1) := R8
      have hq1 := see_lt s1
      refine ⟨cax R8, Do_.rxi (X8_name_ w8 (S.k1 R K8) R8 hq1) ?_ ?_⟩
      · rintro _ h32 w32 - ⟨x, l2, rfl, R32, k32, m32⟩
        have eM : pName X (q + 1) = (some x, (pName X (q + 1)).2) := Prod.ext l2 rfl
        generalize (pName X (q + 1)).2 = q3 at eM R32
        have a32 := k32 _ _ hrn a8
        refine ⟨3, _, 2, a32, ix_nI (j := 2) (by omega) (by omega), axr (nm, 0, x) (q := q3) ?_ ⟨_, hset_at _ _ _, rfl, rfl, rfl⟩ ?_ (K1.setn hw (K8.tr k32) (Nat.le_refl _)) ?_⟩
        · unfold pAdd; rw [eN]; simp only [s1, eM]; rfl
        · show hget _ _ = _
          rw [hset_ne _ _ (by omega)]; exact R32
        · rw [hm_set]; omega
      · rintro y h32 w32 - ⟨l2, f1, k32, m32⟩
        have eM : pName X (q + 1) = (none, (pName X (q + 1)).2) := Prod.ext l2 rfl
        generalize (pName X (q + 1)).2 = q3 at eM f1
        refine ⟨cax f1, axf (q := q3) ?_ f1 (K8.tr k32) (by omega)⟩
        unfold pAdd; rw [eN]; simp only [s1, eM]; rfl
  · rintro y h3 w3 - ⟨n1, f1, k3, m3⟩
    have eN : pName X pl = (none, (pName X pl).2) := Prod.ext n1 rfl
    generalize (pName X pl).2 = q at eN f1
    refine ⟨cax f1, axf (q := q) ?_ f1 (ka.tr k3) (by omega)⟩
    unfold pAdd; rw [eN]
/-- the arrays of a list of additions -/
def tcells (h : hp_) (Y : List Nat) (ts : List (Nat × Nat × Nat)) : Prop := Y.length = ts.length ∧ ∀ (i a : Nat), Y[i]? = some a → ∃ t, ts[i]? = some t ∧ tcell h a t
theorem tcell.obk {a : Nat} {t : Nat × Nat × Nat} (k : tcell h a t) : obk h a := by
  obtain ⟨g, k, -⟩ := k
  exact Or.inr ⟨3, g, k⟩
theorem tcells.obk {Y : List Nat} {ts : List (Nat × Nat × Nat)} (k : tcells h Y ts) : ∀ x ∈ Y, obk h x := by
  intro x hx
  obtain ⟨i, hi⟩ := List.getElem?_of_mem hx
  obtain ⟨t, -, b⟩ := k.2 i x hi
  exact b.obk
theorem tcells.kept {h' : hp_} {Y : List Nat} {ts : List (Nat × Nat × Nat)} (k : tcells h Y ts) (hk : ∀ a n f, hget h a = some (eI n f) → hget h' a = some (eI n f)) : tcells h' Y ts := by
  refine ⟨k.1, fun i a ha => ?_⟩
  obtain ⟨t, b1, g, b2, b3⟩ := k.2 i a ha
  exact ⟨t, b1, g, hk _ _ _ b2, b3⟩
theorem tcells.snoc {Y : List Nat} {ts : List (Nat × Nat × Nat)} {a : Nat} {t : Nat × Nat × Nat} (k : tcells h Y ts) (b : tcell h a t) : tcells h (Y ++ [a]) (ts ++ [t]) := by
  refine ⟨by rw [List.length_append, List.length_append, k.1]; rfl, fun i x hx => ?_⟩
  rcases snoc_cases hx with ⟨c1, c2⟩ | ⟨rfl, rfl⟩
  · obtain ⟨t', d1, d2⟩ := k.2 i x c2
    refine ⟨t', ?_, d2⟩
    rw [List.getElem?_append_left (by rw [← k.1]; exact c1)]
    exact d1
  · refine ⟨t, ?_, b⟩
    rw [k.1, List.getElem?_append_right (Nat.le_refl _), Nat.sub_self]
    rfl
def LX (X : List Nat) (h : hp_) : o_ → hp_ → Prop :=
  RX (RN fun y h' => ∃ ts Y mc ar n f, (pAll X).1 = some ts ∧ AL G h' y Y mc ar n f ∧ tcells h' Y ts ∧ Le h h' ∧ hm h' ≤ hm h + 950) (fun q h' => (pAll X).1 = none ∧ hget h' q = some (eO 9 [.int (nI (pAll X).2)]) ∧ Le h h' ∧ hm h' ≤ hm h + 970)
theorem X0_additionsOf_ {f0 : Nat → Option Nat} (hw : hwf h) (hz : hget h (gz G) = some (eR 0 f0)) (S : SB h p X) : Do_ G M_X0_additionsOf [.ref p] h (LX (G := G) X h) := by
  have hlen := S.2.1
  -- the rest, from the sign between two additions
  have key : ∀ (f q l ar n : Nat) (mc : Int32) (fa : Nat → Option Nat) (Y : List Nat) (ts : List (Nat × Nat × Nat)) (h1 : hp_), X.length - q ≤ f → q ≤ X.length → hwf h1 → Le h h1 → RD h1 (hsz h) p q → AL G h1 l Y mc ar n fa → hsz h < l → (hsz h < ar ∨ n = 0) → tcells h1 Y ts → Y.length ≤ q + 1 → hm h1 ≤ hm h + 20 + 4 * n + 4 * Y.length →
      (pAll X = match pTail X f q with | (none, q2) => (none, q2) | (some us, q2) => if q2 < X.length then (none, q2) else (some (ts ++ us), q2)) →
      Go_ G M_X0_additionsOf 28 [some (.ref p), some (.ref (hsz h)), some (.ref l)] [] h1 (LX (G := G) X h) := by
    intro f
    induction f with
    | zero =>
      intro q l ar n mc fa Y ts h1 hf hq w1 b1 R A hl1 har T hY hm1 e
      have hs : see X q 59 59 = false := by
        cases hh : see X q 59 59 with
        | false => rfl
        | true => have := see_lt hh; omega
      have R0 : hget h1 (hsz h) = some (eO 8 [.int (nI q), .ref p]) := R
      obtain ⟨va, cd, ml, n3, f3, s3, -⟩ := S.2.2
      refine w_X0_additionsOf_28 ⟨cax R0, (X8_takes_ (c := 59) (S.le b1) R hq (by omega)).ri ?_⟩
      rintro _ h2 w2 - ⟨rfl, R2, k2, m2⟩
      rw [hs] at R2
      have R2 : hget h2 (hsz h) = some (eO 8 [.int (nI q), .ref p]) := R2
      have l2 : Le h h2 := fun a e z => k2 _ _ (by have := hlt hw z; omega) (b1 _ _ z)
      refine ⟨fun _ => ⟨_, gfx R2 rfl rfl, cax (l2 _ _ s3), (J5_length_ (S.le l2)).use ⟨fun _ => ?_, fun c => ?_⟩⟩, fun c => ?_⟩
      · refine ⟨_, rfl, ts, Y, mc, ar, n, fa, ?_, ?_, ?_, l2, ?_⟩
        · rw [e]
          show (if q < X.length then (none, q) else (some (ts ++ []), q) : Option (List (Nat × Nat × Nat)) × Nat).1 = some ts
          rw [if_neg (by omega), List.append_nil]
        · exact ⟨k2 _ _ (hgn A.1 R0 (by simp)) A.1, k2 _ _ (hgn A.2.1 R0 (by simp)) A.2.1, A.2.2⟩
        · exact T.kept fun a n f z => k2 _ _ (hgn z R0 (by simp)) z
        · have := A.2.2.2.1
          have := A.2.2.1
          omega
      · exact absurd ((nI_le' (by omega) (by omega)).mpr (by omega)) c
      · rw [hs] at c; exact absurd rfl c
    | succ f ih =>
      intro q l ar n mc fa Y ts h1 hf hq w1 b1 R A hl1 har T hY hm1 e
      have R0 : hget h1 (hsz h) = some (eO 8 [.int (nI q), .ref p]) := R
      obtain ⟨va, cd, ml, n3, f3, s3, -⟩ := S.2.2
      have hn150 := A.2.2.2.1
      refine w_X0_additionsOf_28 ⟨cax R0, (X8_takes_ (c := 59) (S.le b1) R hq (by omega)).ri ?_⟩
      rintro _ h2 w2 - ⟨rfl, R2, k2, m2⟩
      have l2 : Le h h2 := fun a e z => k2 _ _ (by have := hlt hw z; omega) (b1 _ _ z)
      have A2 : AL G h2 l Y mc ar n fa := ⟨k2 _ _ (hgn A.1 R0 (by simp)) A.1, k2 _ _ (hgn A.2.1 R0 (by simp)) A.2.1, A.2.2⟩
      have T2 : tcells h2 Y ts := T.kept fun a n f z => k2 _ _ (hgn z R0 (by simp)) z
      refine ⟨fun c => ?_, fun c => ?_⟩
      · have hs := (bI_0 _).mp c
        rw [hs] at R2
        have R2 : hget h2 (hsz h) = some (eO 8 [.int (nI q), .ref p]) := R2
        have et : pTail X (f + 1) q = (some [], q) := by
          unfold pTail; rw [hs]; rfl
        rw [et] at e
        have e : pAll X = if q < X.length then (none, q) else (some (ts ++ []), q) := e
        rw [List.append_nil] at e
        refine ⟨_, gfx R2 rfl rfl, cax (l2 _ _ s3), (J5_length_ (S.le l2)).use ⟨fun c => ?_, fun c => ?_⟩⟩
        · have := (nI_le' (by omega) (by omega)).mp c
          refine ⟨_, rfl, ts, Y, mc, ar, n, fa, ?_, A2, T2, l2, by omega⟩
          rw [e, if_neg (by omega)]
        · have hlt : q < X.length := by
            rcases Nat.lt_or_ge q X.length with z | z
            · exact z
            · exact absurd ((nI_le' (by omega) (by omega)).mpr z) c
          rw [if_pos hlt] at e
          refine ⟨_, gfx R2 rfl rfl, cax (hnew_at _ _ _), ?_, ?_, ?_, ?_⟩
          · rw [e]
          · rw [e]; exact hnew_at _ _ _
          · exact l2.trans (Le.new w2 _ _)
          · rw [hm_new]; omega
      · have hs := (bI_ne0 _).mp c
        rw [hs] at R2
        have R2 : RD h2 (hsz h) p (q + 1) := R2
        have hq1 := see_lt hs
        have hao := pAdd_ok (X := X) (pl := q + 1) hq1
        refine ⟨cax R2, Do_.rxn (X8_addition_ w2 (S.le l2) R2 hq1) ?_ ?_⟩
        · rintro _ h8 w8 s8 ⟨t, t1, rfl, t2, R8, k8, m8⟩
          have eA : pAdd X (q + 1) = (some t, (pAdd X (q + 1)).2) := Prod.ext t1 rfl
          generalize (pAdd X (q + 1)).2 = q8 at eA R8 hao
          rw [eA] at hao
          obtain ⟨o1, o2, -⟩ := hao
          have o1 : q + 1 ≤ q8 := o1
          have o2 : q8 ≤ X.length := o2
          have R8' : hget h8 (hsz h) = some (eO 8 [.int (nI q8), .ref p]) := R8
          have A8 : AL G h8 l Y mc ar n fa := ⟨k8 _ _ (hgn A2.1 R2 (by simp)) A2.1, k8 _ _ (hgn A2.2.1 R2 (by simp)) A2.2.1, A2.2.2⟩
          have T8 : tcells h8 Y ts := T2.kept fun a n f z => k8 _ _ (hgn z R2 (by simp)) z
          have l8 : Le h h8 := fun a e z => k8 _ _ (by have := hlt hw z; omega) (l2 _ _ z)
          refine ⟨cax A8.1, (J2_add_ w8 A8 (by omega) T8.obk t2.obk).ri ?_⟩
          rintro _ h10 w10 - ⟨-, ar', n', f', A', W⟩
          have kl : KL l ar n h8 h10 := W.1
          have T8' := T8.snoc t2
          have l10 : Le h h10 := fun a e z => kl _ _ (by have := hlt hw z; omega) (by have := hlt hw z; omega) (l8 _ _ z)
          refine ih q8 l ar' n' _ f' (Y ++ [hsz h2]) (ts ++ [t]) h10 (by omega) o2 w10 l10 ?_ A' hl1 ?_ ?_ ?_ ?_ ?_
          · exact kl _ _ (hgn R8' A8.1 (by simp)) (Or.inl (hgn R8' A8.2.1 (by simp))) R8'
          · rcases W.2.1 with ⟨z1, z2, z3⟩ | z
            · left; rw [z1]; exact har.resolve_right z3
            · left; have := hlt w8 R8'; omega
          · exact T8'.kept fun a n0 f0 z => kl _ _ (hgn z A8.1 (by simp)) (Or.inl (hgn z A8.2.1 (by simp))) z
          · rw [List.length_append, List.length_singleton]; omega
          · have z := W.2.2
            rw [List.length_append, List.length_singleton]; omega
          · rw [e]
            conv => lhs; unfold pTail
            rw [hs, if_pos rfl, eA]
            dsimp only
            cases hp : pTail X f q8 with
            | mk o q9 => cases o with
              | none => rfl
              | some us =>
                dsimp only
                rw [List.append_assoc]; rfl
        · rintro y h8 w8 - ⟨t1, f1, k8, m8⟩
          have eA : pAdd X (q + 1) = (none, (pAdd X (q + 1)).2) := Prod.ext t1 rfl
          generalize (pAdd X (q + 1)).2 = q8 at eA f1
          have l8 : Le h h8 := fun a e z => k8 _ _ (by have := hlt hw z; omega) (l2 _ _ z)
          have e : pAll X = (none, q8) := by
            rw [e]
            conv => lhs; unfold pTail
            rw [hs, if_pos rfl, eA]
          refine ⟨cax f1, ?_, ?_, l8, by omega⟩
          · rw [e]
          · rw [e]; exact f1
  have w1 : hwf (hnew h (eO 8 [.int 0, .ref p]) 2) := hwf_new hw _ _
  have z1 : hsz (hnew h (eO 8 [.int 0, .ref p]) 2) = hsz h + 1 := hsz_new _ _ _
  have hzl := hlt hw hz
  refine e_X0_additionsOf ⟨cax (hnew_at _ _ _), e_X8_init ⟨_, pfx (hnew_at _ _ _) rfl rfl rfl, rfl, ?_⟩⟩
  rw [hset_new]
  show cls_at (hnew (hnew h (eO 8 [.int 0, .ref p]) 2) (eO 11 [.int 0, .null, .int 0]) 3) (hsz (hnew h (eO 8 [.int 0, .ref p]) 2)) = some 11 ∧ _
  refine ⟨cax (hnew_at _ _ _), (J2_init_ (v3 := 0) (hwf_new w1 _ _) (hnew_old w1 (hnew_old hw hz)) (hnew_at _ _ _)).rv ?_⟩
  rintro h2 w2 s2 ⟨A, rfl⟩
  have R2 : RD (hset (hnew (hnew h (eO 8 [.int 0, .ref p]) 2) (eO 11 [.int 0, .null, .int 0]) 3) (hsz (hnew h (eO 8 [.int 0, .ref p]) 2)) (eO 11 [.int 0, .ref (gz G), .int 0])) (hsz h) p 0 := by
    show hget _ _ = _
    rw [hset_ne _ _ (by omega)]
    exact hnew_old w1 (hnew_at _ _ _)
  have l2 : Le h (hset (hnew (hnew h (eO 8 [.int 0, .ref p]) 2) (eO 11 [.int 0, .null, .int 0]) 3) (hsz (hnew h (eO 8 [.int 0, .ref p]) 2)) (eO 11 [.int 0, .ref (gz G), .int 0])) := fun a e z => by
    have := hlt hw z
    rw [hset_ne _ _ (by omega)]
    exact hnew_old w1 (hnew_old hw z)
  have m2 : hm (hset (hnew (hnew h (eO 8 [.int 0, .ref p]) 2) (eO 11 [.int 0, .null, .int 0]) 3) (hsz (hnew h (eO 8 [.int 0, .ref p]) 2)) (eO 11 [.int 0, .ref (gz G), .int 0])) = hm h + 7 := by
    rw [hm_set, hm_new, hm_new]
  generalize hset (hnew (hnew h (eO 8 [.int 0, .ref p]) 2) (eO 11 [.int 0, .null, .int 0]) 3) (hsz (hnew h (eO 8 [.int 0, .ref p]) 2)) (eO 11 [.int 0, .ref (gz G), .int 0]) = h2 at *
  rw [z1] at A
  have z2 : hsz (hnew h (eO 8 ([Value.int 0, Value.null].set 1 (Value.ref p))) 2) = hsz h + 1 := hsz_new _ _ _
  rw [z2]
  have hao := pAdd_ok (X := X) (pl := 0) (Nat.zero_le _)
  refine ⟨cax R2, Do_.rxn (X8_addition_ w2 (S.le l2) R2 (Nat.zero_le _)) ?_ ?_⟩
  · rintro _ h8 w8 s8 ⟨t, t1, rfl, t2, R8, k8, m8⟩
    have eA : pAdd X 0 = (some t, (pAdd X 0).2) := Prod.ext t1 rfl
    generalize (pAdd X 0).2 = q8 at eA R8 hao
    rw [eA] at hao
    obtain ⟨o1, o2, -⟩ := hao
    have o2 : q8 ≤ X.length := o2
    have R8' : hget h8 (hsz h) = some (eO 8 [.int (nI q8), .ref p]) := R8
    have A8 : AL G h8 (hsz h + 1) [] 0 (gz G) 0 _ := ⟨k8 _ _ (by omega) A.1, k8 _ _ (by omega) A.2.1, A.2.2⟩
    have l8 : Le h h8 := fun a e z => k8 _ _ (by have := hlt hw z; omega) (l2 _ _ z)
    refine ⟨cax A8.1, (J2_add_ w8 A8 (by simp) (fun x hx => by simp at hx) t2.obk).ri ?_⟩
    rintro _ h10 w10 - ⟨-, ar', n', f', A', W⟩
    have kl : KL (hsz h + 1) (gz G) 0 h8 h10 := W.1
    have T8' : tcells h8 [hsz h2] [t] := ⟨rfl, fun i a ha => by
      cases i with
      | zero => have ha : hsz h2 = a := by simpa using ha
                subst ha
                exact ⟨t, rfl, t2⟩
      | succ i => simp at ha⟩
    have l10 : Le h h10 := fun a e z => kl _ _ (by have := hlt hw z; omega) (Or.inr rfl) (l8 _ _ z)
    refine key X.length q8 (hsz h + 1) ar' n' _ f' [hsz h2] [t] h10 (by omega) o2 w10 l10 ?_ A' (by omega) ?_ ?_ ?_ ?_ ?_
    · exact kl _ _ (by omega) (Or.inr rfl) R8'
    · rcases W.2.1 with ⟨z1, z2, z3⟩ | z
      · exact absurd rfl z3
      · left; have := hlt w8 R8'; omega
    · exact T8'.kept fun a n0 f0 z => kl _ _ (hgn z A8.1 (by simp)) (Or.inr rfl) z
    · simp
    · have z := W.2.2
      simp only [List.length_singleton]; omega
    · unfold pAll
      rw [eA]
      dsimp only
      cases hp : pTail X X.length q8 with
      | mk o q9 => cases o with
        | none => rfl
        | some us => rfl
  · rintro y h8 w8 - ⟨t1, f1, k8, m8⟩
    have eA : pAdd X 0 = (none, (pAdd X 0).2) := Prod.ext t1 rfl
    generalize (pAdd X 0).2 = q8 at eA f1
    have l8 : Le h h8 := fun a e z => k8 _ _ (by have := hlt hw z; omega) (l2 _ _ z)
    have e : pAll X = (none, q8) := by
      unfold pAll; rw [eA]
    refine ⟨cax f1, ?_, ?_, l8, by omega⟩
    · rw [e]
    · rw [e]; exact f1
end D13
