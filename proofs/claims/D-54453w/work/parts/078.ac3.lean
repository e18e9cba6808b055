/-! SPECS 28: what is told -/
set_option maxRecDepth 100000
def lostR (R : List rw_) (r : rw_) : Bool := match r.2.1 with
  | none => false
  | some g => match look R (nI g) with
    | none => true
    | some i => match R[i]? with
      | none => true
      | some m => m.2.1.isSome || !(m.2.2.1 == r.2.2.1)
def nali (R : List rw_) : Nat := R.countP (fun r => r.2.1.isSome)
def nlos (Q R : List rw_) : Nat := R.countP (fun r => r.2.1.isSome && lostR Q r)
def alof (R : List rw_) (s : Nat) : Nat := R.countP (fun r => r.2.1.isSome && (r.2.2.1 == s))
def entV (R : List rw_) (i : Nat) (r : rw_) (w : Int32) : Int32 :=
  if w = Int32.ofInt 0 then nI i else if w = Int32.ofInt (0 + 1) then nI (i / 4) else if w = Int32.ofInt (0 + 1 + 1) then bI r.2.1.isSome else if w = Int32.ofInt (0 + 1 + 1 + 1) then nI r.2.2.1
  else if w = Int32.ofInt (0 + 1 + 1 + 1 + 1) then nI r.2.2.2.1 else if w = Int32.ofInt (0 + 1 + 1 + 1 + 1 + 1) then nI r.2.2.2.2 else if w = Int32.ofInt (0 + 1 + 1 + 1 + 1 + 1 + 1) then nI (alof R r.2.2.1)
  else if w = Int32.ofInt (0 + 1 + 1 + 1 + 1 + 1 + 1 + 1) then gvI r.2.1 else if w = Int32.ofInt (0 + 1 + 1 + 1 + 1 + 1 + 1 + 1 + 1) then bI (lostR R r) else -2
def entA (S : st_) (a w : Int32) : Int32 × st_ := match look S.1.1 a with
  | none => (-1, S)
  | some i => match S.1.1[i]? with
    | none => (-1, S)
    | some r => (entV S.1.1 i r w, S)
def namA (S : st_) (a : Int32) : Int32 × st_ := if 0 ≤ a then (match S.1.1[i2n a]? with
  | none => (-5, S)
  | some r => (nI r.1, S)) else (-2, S)
def nthn (R : List rw_) (i : Nat) : Int32 := match R[i]? with
  | some r => nI r.1
  | none => -5
def blkA (S : st_) (a w : Int32) : Int32 × st_ := if inr a 0 (nI (S.1.2.2.1 - 1)) then
    (if w = 0 then (nI (min S.1.1.length (4 * i2n a + 4) - 4 * i2n a), S) else if w = 1 then ((if 4 * i2n a < min S.1.1.length (4 * i2n a + 4) then nthn S.1.1 (4 * i2n a) else -5), S)
     else if w = 2 then ((if 4 * i2n a < min S.1.1.length (4 * i2n a + 4) then nthn S.1.1 (min S.1.1.length (4 * i2n a + 4) - 1) else -5), S) else (-2, S)) else (-1, S)
def lowS (R : List rw_) (s : Nat) : Int32 := match R.find? (fun r => r.2.2.1 == s) with
  | none => 1000
  | some r => nI r.1
def atA (S : st_) (u : Int32) : Int32 × st_ := if inr u 0 99 then (match S.1.2.1.find? (fun t => decide (i2n u < t.1 + t.2.1)) with
  | none => (-5, S)
  | some t => (lowS S.1.1 t.1, S)) else (-1, S)
def fitA (S : st_) (l : Int32) : Int32 × st_ := if inr l 1 40 then (if tsum S.1.2.1 + i2n l ≤ 100 then (0, S) else if usum S.1.1 false S.1.2.1 + i2n l ≤ 100 then (1, S) else (2, S)) else (-2, S)
def begV : List rw_ → Int32 → Int32 → Int32
  | [], _, _ => -5
  | r :: R, a, b => if nI r.1 / 26 = a then (if b = 0 then nI r.1 else begV R a (b + -1)) else begV R a b
def begA (S : st_) (a b : Int32) : Int32 × st_ := if inr a 0 25 then (if 0 ≤ b then (begV S.1.1 a b, S) else (-2, S)) else (-2, S)
def cntV (S : st_) (w : Int32) : Int32 :=
  if w = Int32.ofInt 0 then nI S.1.1.length else if w = Int32.ofInt (0 + 1) then nI S.1.1.length - nI (nali S.1.1) else if w = Int32.ofInt (0 + 1 + 1) then nI (nali S.1.1) else if w = Int32.ofInt (0 + 1 + 1 + 1) then nI (nlos S.1.1 S.1.1)
  else if w = Int32.ofInt (0 + 1 + 1 + 1 + 1) then nI S.1.2.2.1 else if w = Int32.ofInt (0 + 1 + 1 + 1 + 1 + 1) then nI (4 * S.1.2.2.1 - S.1.1.length) else if w = Int32.ofInt (0 + 1 + 1 + 1 + 1 + 1 + 1) then nI (tsum S.1.2.1)
  else if w = Int32.ofInt (0 + 1 + 1 + 1 + 1 + 1 + 1 + 1) then nI (usum S.1.1 false S.1.2.1) else if w = Int32.ofInt (0 + 1 + 1 + 1 + 1 + 1 + 1 + 1 + 1) then nI (usum S.1.1 true S.1.2.1)
  else if w = Int32.ofInt (0 + 1 + 1 + 1 + 1 + 1 + 1 + 1 + 1 + 1) then 100 - nI (tsum S.1.2.1) else if w = Int32.ofInt (0 + 1 + 1 + 1 + 1 + 1 + 1 + 1 + 1 + 1 + 1) then nI (livT S.1.1 S.1.2.1).length
  else if w = Int32.ofInt (0 + 1 + 1 + 1 + 1 + 1 + 1 + 1 + 1 + 1 + 1 + 1) then S.1.2.2.2.1 else if w = Int32.ofInt (0 + 1 + 1 + 1 + 1 + 1 + 1 + 1 + 1 + 1 + 1 + 1 + 1) then S.1.2.2.2.2
  else if w = Int32.ofInt (0 + 1 + 1 + 1 + 1 + 1 + 1 + 1 + 1 + 1 + 1 + 1 + 1 + 1) then nI S.2.2.1.length else if w = Int32.ofInt (0 + 1 + 1 + 1 + 1 + 1 + 1 + 1 + 1 + 1 + 1 + 1 + 1 + 1 + 1) then nI S.2.2.2.length else -2
theorem div4 : ∀ i, i < 25 → nI i / 4 = nI (i / 4) := by decide +kernel
theorem lost_eq {h : hp_} {F : List (EN × tt_)} {K : List (Nat × tt_)} (hk : ∀ k ∈ K, txt h k.1 k.2.1 k.2.2.1 k.2.2.2) (hc : chn 0 (K.map Prod.snd)) (ht : tsum (K.map Prod.snd) ≤ 100) (hF : ∀ x ∈ F, (et x.1, x.2) ∈ K) {x : EN × tt_} (hx : x ∈ F) : lost (F.map Prod.fst) x.1 = lostR (F.map rwo) (rwo x) := by
  have hr : (rwo x).2.1 = eg x.1 := rfl
  unfold lost lostR
  rw [hr]
  cases hg : eg x.1 with
  | none => rfl
  | some g =>
    dsimp only
    cases hf : fnd (F.map Prod.fst) (nI g) with
    | none => rw [fnd_none hf]
    | some m =>
      obtain ⟨i, z, z1, z2, z3⟩ := fnd_some hf
      rw [z3]
      have hri : (F.map rwo)[i]? = some (rwo z) := by rw [List.getElem?_map, z1]; rfl
      dsimp only
      rw [hri]
      dsimp only
      rw [← z2]
      have e := K_inj hk hc ht (a := (et z.1, z.2)) (b := (et x.1, x.2)) (hF z (List.mem_of_getElem? z1)) (hF x hx)
      congr 2
      rw [Bool.eq_iff_iff, beq_iff_eq, beq_iff_eq]
      exact e
section D28
variable {G : g_} {h : hp_} {x : Nat} {S : st_}
theorem PC.q {h' : hp_} {r : Int32 × st_} {y : Int32} (A : XS G h x S) (l : Le h h') (m : hm h' ≤ hm h + 18000) (e1 : r.1 = y) (e2 : r.2 = S) : PC G x h r (.inl (some (.int y))) h' := PC.no A l m (by rw [← e1, ← e2])
theorem X0_fits_ {a : Int32} (hw : hwf h) (A : XS G h x S) : Do_ G M_X0_fits [.ref x, .int a] h (PC G x h (fitA S a)) := by
  have A0 := A
  obtain ⟨nw, snv, hq, es, a', pd, X, A⟩ := A
  obtain ⟨W, lo, N, B, -⟩ := A.2.1
  have B0 := B
  obtain ⟨d, el, ar, n, tl, ta, nt, F, K, B, eR_, eT, eN⟩ := B
  have hc : chn 0 (K.map Prod.snd) := by rw [← eT]; exact W.2.2.2.2.2.1
  have ht : tsum (K.map Prod.snd) ≤ 100 := by rw [← eT]; exact W.2.2.2.2.2.2
  have hK : K.length ≤ 100 := by have := chn_len hc; rw [List.length_map] at this; omega
  refine e_X0_fits (X0_isLength_.use ⟨fun c => ⟨_, gfx A.1 rfl rfl, B0.cls, ?_⟩, fun c => ?_⟩)
  · have hin : inr a 1 40 = true := (bI_ne0 _).mp c
    obtain ⟨ea1, ha1, ha2⟩ := inr_n (l := 1) (k := 40) (by omega) (by omega) hin
    have sp := X1_fits_ (G := G) (l := i2n a) B hc ht ha2
    rw [ea1] at sp
    refine sp.use ?_
    rw [← eT]
    refine ⟨fun c2 => ⟨_, gfx A.1 rfl rfl, B0.cls, (X1_units_ (b := false) hw B hc ht).use fun h1 w1 s1 l1 m1 => ?_⟩, fun c2 => ?_⟩
    · have h2 : ¬ tsum S.1.2.1 + i2n a ≤ 100 := of_decide_eq_false ((bI_0 _).mp c2)
      rw [← eR_, ← eT]
      have hu : usum S.1.1 false S.1.2.1 ≤ 100 := by
        rw [eT]; exact Nat.le_trans (tsum_filter_le _ _) ht
      have e3 : nI (usum S.1.1 false S.1.2.1) + a = nI (usum S.1.1 false S.1.2.1 + i2n a) := by rw [← nI_add', ea1]
      rw [e3]
      refine ⟨fun c3 => ?_, fun c3 => ?_⟩
      · have := (nI_lt' (a := 100) (by omega) (by omega)).mp c3
        exact PC.no A0 l1 (by omega) (by unfold fitA; rw [if_pos hin, if_neg h2, if_neg (by omega)])
      · have : ¬ 100 < usum S.1.1 false S.1.2.1 + i2n a := fun e => c3 ((nI_lt' (a := 100) (by omega) (by omega)).mpr e)
        exact PC.no A0 l1 (by omega) (by unfold fitA; rw [if_pos hin, if_neg h2, if_pos (by omega)])
    · have h2 : tsum S.1.2.1 + i2n a ≤ 100 := of_decide_eq_true ((bI_ne0 _).mp c2)
      exact PC.no A0 Le.rfl (by omega) (by unfold fitA; rw [if_pos hin, if_pos h2])
  · have hin : inr a 1 40 = false := (bI_0 _).mp (Classical.not_not.mp c)
    exact PC.no A0 Le.rfl (by omega) (by unfold fitA; rw [hin]; rfl)
theorem X0_named_ {a : Int32} (hw : hwf h) (A : XS G h x S) : Do_ G M_X0_named [.ref x, .int a] h (PC G x h (namA S a)) := by
  have A0 := A
  obtain ⟨nw, snv, hq, es, a', pd, X, A⟩ := A
  obtain ⟨W, lo, N, B, -⟩ := A.2.1
  have B0 := B
  obtain ⟨d, el, ar, n, tl, ta, nt, F, K, B, eR_, eT, eN⟩ := B
  have hl24 := B.2.1.len
  refine e_X0_named ⟨fun c => ⟨_, gfx A.1 rfl rfl, _, gfx B.1 rfl rfl, cax B.2.1.1, (X2_count_ hw B.2.1).use fun h1 w1 s1 l1 m1 => ⟨fun c2 => ?_, fun c2 => ?_⟩⟩, fun c => PC.no A0 Le.rfl (by omega) (by unfold namA; rw [if_neg c])⟩
  · rw [List.length_map] at c2 hl24
    have e2 : S.1.1[i2n a]? = none := by
      rw [List.getElem?_eq_none_iff, eR_, List.length_map]
      rw [Int32.le_iff_toInt_le, nI_toInt (by omega)] at c2
      unfold i2n; omega
    exact PC.no A0 l1 (by omega) (by unfold namA; rw [if_pos c, e2])
  · rw [List.length_map] at c2 hl24
    have hlt0 : i2n a < F.length ∧ nI (i2n a) = a := by
      rw [Int32.le_iff_toInt_le, nI_toInt (by omega)] at c2
      rw [Int32.le_iff_toInt_le] at c
      have h0 : (0 : Int32).toInt = 0 := by decide
      unfold i2n
      refine ⟨by omega, ?_⟩
      apply Int32.toInt_inj.mp
      rw [nI_toInt (by omega)]
      omega
    obtain ⟨hlt', hla⟩ := hlt0
    have A1 := A.le l1
    have B1 := B.le l1
    have hx : F[i2n a]? = some (F[i2n a]'hlt') := List.getElem?_eq_getElem _
    have kx : ent h1 (F[i2n a]'hlt').1 := B1.2.1.2.2.1 _ (List.mem_map_of_mem (List.mem_of_getElem? hx))
    obtain ⟨c9, hc1, hc2⟩ := kx.cls
    obtain ⟨mc, f, al⟩ := B1.2.1.2.1
    have sp := J2_get_ (G := G) (i := i2n a) (x := ea (F[i2n a]'hlt').1) al (by rw [List.getElem?_map, List.getElem?_map, hx]; rfl)
    rw [hla] at sp
    refine ⟨_, gfx A1.1 rfl rfl, _, gfx B1.1 rfl rfl, _, gfx B1.2.1.1 rfl rfl, cax al.1, sp.use ⟨c9, hc1, hc2, _, kx.name, ?_⟩⟩
    refine PC.no A0 l1 (by omega) ?_
    have e2 : S.1.1[i2n a]? = some (rwo (F[i2n a]'hlt')) := by rw [eR_, List.getElem?_map, hx]; rfl
    unfold namA
    rw [if_pos c, e2]
    rfl
theorem X0_block_ {a w : Int32} (hw : hwf h) (A : XS G h x S) : Do_ G M_X0_block [.ref x, .int a, .int w] h (PC G x h (blkA S a w)) := by
  have A0 := A
  obtain ⟨nw, snv, hq, es, a', pd, X, A⟩ := A
  obtain ⟨W, lo, N, B, -⟩ := A.2.1
  have B0 := B
  obtain ⟨d, el, ar, n, tl, ta, nt, F, K, B, eR_, eT, eN⟩ := B
  have hl24 := B.2.1.len
  rw [List.length_map] at hl24
  have hbl1 := W.2.2.2.1
  have hbl6 := W.2.2.2.2.1
  have eF : F.length = S.1.1.length := by rw [eR_, List.length_map]
  have ebl : nI S.1.2.2.1 - 1 = nI (S.1.2.2.1 - 1) := nI_sub' (b := 1) hbl1
  refine e_X0_block ⟨_, gfx A.1 rfl rfl, _, gfx B.1 rfl rfl, _, gfx B.2.1.1 rfl rfl, X0_inRange_.use ⟨fun c => ⟨_, gfx A.1 rfl rfl, _, gfx B.1 rfl rfl, cax B.2.1.1, ?_⟩, fun c => ?_⟩⟩
  · rw [ebl] at c
    have hin : inr a 0 (nI (S.1.2.2.1 - 1)) = true := (bI_ne0 _).mp c
    obtain ⟨ea1, -, ha2⟩ := inr_n (l := 0) (k := S.1.2.2.1 - 1) (by omega) (by omega) hin
    rw [← ea1]
    refine (X2_block_ hw).rn ?_
    rintro _ h1 w1 s1 ⟨rfl, e1⟩
    have l1 : Le h h1 := by rw [e1]; exact Le.new hw _ _
    have m1 : hm h1 = hm h + 3 := by rw [e1, hm_new]
    have b1 : hget h1 (hsz h) = some (eO 10 [.int (nI (i2n a)), .ref d]) := by rw [e1]; exact hnew_at _ _ _
    have D1 := (B.le l1).2.1
    have wl := X10_iterator_ w1 D1 b1 (by omega)
    rw [List.length_map, eF] at wl
    have hmin : min S.1.1.length (4 * i2n a + 4) ≤ (F.map Prod.fst).length := by rw [List.length_map, eF]; exact Nat.min_le_left _ _
    have hnth : ∀ i, (match (F.map Prod.fst)[i]? with | some e => nI (en e) | none => -5) = nthn S.1.1 i := by
      intro i
      unfold nthn
      rw [eR_, List.getElem?_map, List.getElem?_map]
      cases F[i]? with
      | none => rfl
      | some z => rfl
    refine ⟨fun c2 => ⟨fun c3 => ⟨fun c4 => ?_, fun c4 => ⟨cax b1, (X11_last_ w1 D1 wl hmin (by omega)).use fun h2 w2 s2 l2 m2 => ?_⟩⟩, fun c3 => ⟨cax b1, (X11_first_ w1 D1 wl hmin (by omega)).use fun h2 w2 s2 l2 m2 => ?_⟩⟩, fun c2 => ⟨cax b1, (X11_count_ w1 D1 wl hmin (by omega)).use fun h2 w2 s2 l2 m2 => ?_⟩⟩
    · rw [ea1]
      exact PC.no A0 l1 (by omega) (by unfold blkA; rw [if_pos hin, if_neg c2, if_neg c3, if_neg c4])
    · rw [ea1]
      refine PC.q A0 (l1.trans l2) (by omega) ?_ ?_
      · unfold blkA; rw [if_pos hin, if_neg c2, if_neg c3, if_pos (Classical.not_not.mp c4)]
        dsimp only
        split
        · exact (hnth _).symm
        · rfl
      · unfold blkA; rw [if_pos hin, if_neg c2, if_neg c3, if_pos (Classical.not_not.mp c4)]
    · rw [ea1]
      refine PC.q A0 (l1.trans l2) (by omega) ?_ ?_
      · unfold blkA; rw [if_pos hin, if_neg c2, if_pos (Classical.not_not.mp c3)]
        dsimp only
        split
        · exact (hnth _).symm
        · rfl
      · unfold blkA; rw [if_pos hin, if_neg c2, if_pos (Classical.not_not.mp c3)]
    · rw [ea1]
      refine PC.q A0 (l1.trans l2) (by omega) ?_ ?_
      · unfold blkA; rw [if_pos hin, if_pos (Classical.not_not.mp c2)]
      · unfold blkA; rw [if_pos hin, if_pos (Classical.not_not.mp c2)]
  · rw [ebl] at c
    have hin : inr a 0 (nI (S.1.2.2.1 - 1)) = false := (bI_0 _).mp (Classical.not_not.mp c)
    exact PC.no A0 Le.rfl (by omega) (by unfold blkA; rw [hin]; rfl)
theorem X0_lowest_ {k : Nat × tt_} {nw hq es a pd d el ar n tl ta nt lo : Nat} {snv : Value} {X : List Nat} {F : List (EN × tt_)} {K : List (Nat × tt_)} (hw : hwf h) (A : XSA G h x nw snv hq es a pd X S) (B : SHA G lo h nw d el ar n tl ta nt F S.1.2.2.1 K S.1.2.2.2.1 S.1.2.2.2.2) (eR_ : S.1.1 = F.map rwo) (hc : chn 0 (K.map Prod.snd)) (ht : tsum (K.map Prod.snd) ≤ 100) (hk : k ∈ K) :
    QI G M_X0_lowest [.ref x, .ref k.1] h (lowS S.1.1 k.2.1) 5 := by
  have hl24 := B.2.1.len
  rw [List.length_map] at hl24
  have key : ∀ (j i : Nat) (h1 : hp_), F.length - i = j → i ≤ F.length → Le h h1 → IW h1 (hsz h) d i F.length → hm h1 ≤ hm h + 5 → (∀ (q : Nat) (y : rw_), q < i → S.1.1[q]? = some y → (y.2.2.1 == k.2.1) = false) →
      Go_ G M_X0_lowest 11 [none, some (.ref k.1), some (.ref (hsz h)), none] [] h1 (RI fun y h' => y = lowS S.1.1 k.2.1 ∧ Le h h' ∧ hm h' ≤ hm h + 5) := by
    intro j
    induction j with
    | zero =>
      intro i h1 hj hi b1 b2 b3 b4
      have I0 := b2
      obtain ⟨_, I⟩ := b2
      refine w_X0_lowest_11 ⟨cax I, (X4_hasNext_ I0 (by omega) (by omega)).use ⟨fun _ => ⟨_, rfl, ?_, b1, b3⟩, fun c => ?_⟩⟩
      · unfold lowS
        rw [find_none (fun q y hy => b4 q y ?_ hy)]
        have := (List.getElem?_eq_some_iff.mp hy).1
        rw [eR_, List.length_map] at this
        omega
      · rw [decide_eq_false (by omega)] at c
        exact absurd rfl c
    | succ j ih =>
      intro i h1 hj hi b1 b2 b3 b4
      have hx : F[i]? = some F[i] := List.getElem?_eq_getElem (by omega)
      have hxm := List.mem_of_getElem? hx
      have hxR : S.1.1[i]? = some (rwo F[i]) := by rw [eR_, List.getElem?_map, hx]; rfl
      have I0 := b2
      obtain ⟨_, I⟩ := b2
      refine w_X0_lowest_11 ⟨cax I, (X4_hasNext_ I0 (by omega) (by omega)).use ⟨fun c => ?_, fun _ => ⟨cax I, (X4_next_ (e := F[i].1) (B.2.1.le b1) I0 (by rw [List.getElem?_map, hx]; rfl)).rn ?_⟩⟩⟩
      · rw [decide_eq_true (by omega)] at c
        exact absurd c (by decide)
      · rintro _ h2 w2 - ⟨rfl, J, m⟩
        have l2 := m.le hw b1 (Nat.le_refl _)
        have k2 : ent h2 F[i].1 := (B.2.1.2.2.1 _ (List.mem_map_of_mem hxm)).le l2
        obtain ⟨c, hc1, hc2⟩ := k2.cls
        have teq : et F[i].1 = k.1 ↔ F[i].2.1 = k.2.1 := K_inj B.2.2.2.1 hc ht (a := (et F[i].1, F[i].2)) (b := k) (B.2.2.2.2.1 _ hxm) hk
        refine ⟨c, hc1, hc2, _, k2.text, fun c2 => ⟨_, k2.name, _, rfl, ?_, l2, by rw [m.2]; exact b3⟩, fun c2 => ?_⟩
        · have h1 : et F[i].1 = k.1 := by simpa using c2
          unfold lowS
          rw [find_at (p := fun r : rw_ => r.2.2.1 == k.2.1) hxR (beq_iff_eq.mpr (teq.mp h1)) b4]
          rfl
        · have h1 : ¬ et F[i].1 = k.1 := fun e => c2 (by rw [show et F[i].1 = k.1 from e])
          refine ih (i + 1) h2 (by omega) (by omega) l2 J (by rw [m.2]; exact b3) (fun q y hq hy => ?_)
          by_cases hqi : q < i
          · exact b4 q y hqi hy
          · obtain rfl : q = i := by omega
            rw [hxR] at hy
            rw [← Option.some.inj hy, beq_eq_false_iff_ne]
            exact fun e => h1 (teq.mpr e)
  refine e_X0_lowest ⟨_, gfx A.1 rfl rfl, _, gfx B.1 rfl rfl, cax B.2.1.1, (X2_iterator_ hw B.2.1).rn ?_⟩
  rintro _ h1 - - ⟨rfl, I, b1, b2⟩
  rw [List.length_map] at I
  exact key F.length 0 h1 rfl (Nat.zero_le _) b1 I b2 (fun q y hq => absurd hq (by omega))
theorem X0_at_ {u : Int32} (hw : hwf h) (A : XS G h x S) : Do_ G M_X0_at [.ref x, .int u] h (PC G x h (atA S u)) := by
  have A0 := A
  obtain ⟨nw, snv, hq, es, a', pd, X, A⟩ := A
  obtain ⟨W, lo, N, B, -⟩ := A.2.1
  have B0 := B
  obtain ⟨d, el, ar, n, tl, ta, nt, F, K, B, eR_, eT, eN⟩ := B
  have hc : chn 0 (K.map Prod.snd) := by rw [← eT]; exact W.2.2.2.2.2.1
  have ht : tsum (K.map Prod.snd) ≤ 100 := by rw [← eT]; exact W.2.2.2.2.2.2
  have hK : K.length ≤ 100 := by have := chn_len hc; rw [List.length_map] at this; omega
  obtain ⟨mt, ft, a3⟩ := B.2.2.1
  refine e_X0_at (X0_inRange_.use ⟨fun c => ⟨_, gfx A.1 rfl rfl, _, gfx B.1 rfl rfl, cax a3.1, (J2_iterator_ hw a3).rn ?_⟩, fun c => ?_⟩)
  · have hin : inr u 0 99 = true := (bI_ne0 _).mp c
    obtain ⟨eu1, -, hu2⟩ := inr_n (l := 0) (k := 99) (by omega) (by omega) hin
    have key : ∀ (j i : Nat) (h1 : hp_), K.length - i = j → i ≤ K.length → hwf h1 → Le h h1 → IT h1 (hsz h) tl mt i → hm h1 ≤ hm h + 5 → (∀ (q : Nat) (y : tt_), q < i → S.1.2.1[q]? = some y → decide (i2n u < y.1 + y.2.1) = false) →
        Go_ G M_X0_at 25 [some (.ref x), some (.int u), some (.ref (hsz h)), none] [] h1 (PC G x h (atA S u)) := by
      intro j
      induction j with
      | zero =>
        intro i h1 hj hi w1 b1 b2 b3 b4
        have I0 := b2
        obtain ⟨_, I⟩ := b2
        refine w_X0_at_25 ⟨cax I, (J13_hasNext_ (a3.le b1) I0 (by rw [List.length_map]; omega)).use ⟨fun _ => ?_, fun c => ?_⟩⟩
        · refine PC.no A0 b1 (by omega) ?_
          unfold atA
          rw [if_pos hin, find_none (fun q y hy => b4 q y ?_ hy)]
          have := (List.getElem?_eq_some_iff.mp hy).1
          rw [eT, List.length_map] at this
          omega
        · rw [List.length_map, decide_eq_false (by omega)] at c
          exact absurd rfl c
      | succ j ih =>
        intro i h1 hj hi w1 b1 b2 b3 b4
        have hx : K[i]? = some K[i] := List.getElem?_eq_getElem (by omega)
        have hxm := List.mem_of_getElem? hx
        have hxT : S.1.2.1[i]? = some K[i].2 := by rw [eT]; exact kst hx
        have hca := chn_at hc (kst hx)
        have I0 := b2
        obtain ⟨_, I⟩ := b2
        refine w_X0_at_25 ⟨cax I, (J13_hasNext_ (a3.le b1) I0 (by rw [List.length_map]; omega)).use ⟨fun c => ?_, fun _ => ⟨cax I, (J13_next_ (x := K[i].1) (a3.le b1) I0 (by rw [List.getElem?_map, hx]; rfl)).rn ?_⟩⟩⟩
        · rw [List.length_map, decide_eq_true (by omega)] at c
          exact absurd c (by decide)
        · rintro _ h2 w2 - ⟨rfl, e2⟩
          have l2 : Le h h2 := fun q e z => by
            rw [e2, hset_ne _ _ (by have := hlt hw z; omega)]
            exact b1 q e z
          have J : IT h2 (hsz h) tl mt (i + 1) := ⟨_, by rw [e2]; exact hset_at _ _ _⟩
          have m2 : hm h2 = hm h1 := by rw [e2, hm_set]
          have kt : txt h2 _ _ _ _ := (B.2.2.2.1 _ hxm).le l2
          have A2 := A.le l2
          have B2 := B.le l2
          refine ⟨7, cax kt, by simp, cax kt, (X7_end_ kt).use ⟨fun c => ?_, fun c => ⟨cax A2.1, ?_⟩⟩⟩
          · rw [← eu1] at c
            have := (nI_le' (by omega) (by omega)).mp c
            refine ih (i + 1) h2 (by omega) (by omega) w2 l2 J (by omega) (fun q y hq hy => ?_)
            by_cases hqi : q < i
            · exact b4 q y hqi hy
            · obtain rfl : q = i := by omega
              rw [hxT] at hy
              rw [← Option.some.inj hy]
              exact decide_eq_false (by omega)
          · have hlt' : i2n u < K[i].2.1 + K[i].2.2.1 := by
              rcases Nat.lt_or_ge (i2n u) (K[i].2.1 + K[i].2.2.1) with q | q
              · exact q
              · refine absurd ?_ c
                rw [← eu1]
                exact (nI_le' (by omega) (by omega)).mpr q
            refine (X0_lowest_ w2 A2 B2 eR_ hc ht hxm).use fun h3 w3 s3 l3 m3 => ?_
            refine PC.no A0 (l2.trans l3) (by omega) ?_
            unfold atA
            rw [if_pos hin, find_at hxT (decide_eq_true hlt') b4]
    rintro _ h1 w1 s1 ⟨rfl, I, l1, m1⟩
    exact key K.length 0 h1 rfl (Nat.zero_le _) w1 l1 I (by omega) (fun q y hq => absurd hq (by omega))
  · have hin : inr u 0 99 = false := (bI_0 _).mp (Classical.not_not.mp c)
    exact PC.no A0 Le.rfl (by omega) (by unfold atA; rw [hin]; rfl)
theorem X0_beginning_ {a b : Int32} (hw : hwf h) (A : XS G h x S) : Do_ G M_X0_beginning [.ref x, .int a, .int b] h (PC G x h (begA S a b)) := by
  have A0 := A
  obtain ⟨nw, snv, hq, es, a', pd, X, A⟩ := A
  obtain ⟨W, lo, N, B, -⟩ := A.2.1
  have B0 := B
  obtain ⟨d, el, ar, n, tl, ta, nt, F, K, B, eR_, eT, eN⟩ := B
  have hl24 := B.2.1.len
  rw [List.length_map] at hl24
  refine e_X0_beginning (X0_inRange_.use ⟨fun c => ?_, fun c => ⟨fun c2 => ⟨_, gfx A.1 rfl rfl, _, gfx B.1 rfl rfl, cax B.2.1.1, (X2_iterator_ hw B.2.1).rn ?_⟩, fun c2 => ?_⟩⟩)
  · have hin : inr a 0 25 = false := (bI_0 _).mp c
    exact PC.no A0 Le.rfl (by omega) (by unfold begA; rw [hin]; rfl)
  · have hin : inr a 0 25 = true := (bI_ne0 _).mp c
    have key : ∀ (j i : Nat) (b' : Int32) (h1 : hp_), F.length - i = j → i ≤ F.length → Le h h1 → IW h1 (hsz h) d i F.length → hm h1 ≤ hm h + 5 → begV S.1.1 a b = begV (S.1.1.drop i) a b' →
        Go_ G M_X0_beginning 31 [none, some (.int a), none, some (.int b'), some (.ref (hsz h)), none] [] h1 (PC G x h (begA S a b)) := by
      intro j
      induction j with
      | zero =>
        intro i b' h1 hj hi b1 b2 b3 b4
        have I0 := b2
        obtain ⟨_, I⟩ := b2
        refine w_X0_beginning_31 ⟨cax I, (X4_hasNext_ I0 (by omega) (by omega)).use ⟨fun _ => ?_, fun c => ?_⟩⟩
        · refine PC.no A0 b1 (by omega) ?_
          unfold begA
          rw [if_pos hin, if_pos c2, b4, List.drop_of_length_le (by rw [eR_, List.length_map]; omega)]
          rfl
        · rw [decide_eq_false (by omega)] at c
          exact absurd rfl c
      | succ j ih =>
        intro i b' h1 hj hi b1 b2 b3 b4
        have hx : F[i]? = some F[i] := List.getElem?_eq_getElem (by omega)
        have hxm := List.mem_of_getElem? hx
        have hxR : S.1.1[i]? = some (rwo F[i]) := by rw [eR_, List.getElem?_map, hx]; rfl
        have hdr := drop_at hxR
        have I0 := b2
        obtain ⟨_, I⟩ := b2
        refine w_X0_beginning_31 ⟨cax I, (X4_hasNext_ I0 (by omega) (by omega)).use ⟨fun c => ?_, fun _ => ⟨cax I, (X4_next_ (e := F[i].1) (B.2.1.le b1) I0 (by rw [List.getElem?_map, hx]; rfl)).rn ?_⟩⟩⟩
        · rw [decide_eq_true (by omega)] at c
          exact absurd c (by decide)
        · rintro _ h2 w2 - ⟨rfl, J, m⟩
          have l2 := m.le hw b1 (Nat.le_refl _)
          have k2 : ent h2 F[i].1 := (B.2.1.2.2.1 _ (List.mem_map_of_mem hxm)).le l2
          obtain ⟨c, hc1, hc2⟩ := k2.cls
          have m2 : hm h2 ≤ hm h + 5 := by rw [m.2]; exact b3
          have hn1 : (rwo F[i]).1 = en F[i].1 := rfl
          refine ⟨c, hc1, hc2, _, k2.name, by decide, fun c3 => ⟨fun c4 => ?_, fun c4 => ⟨_, k2.name, ?_⟩⟩, fun c3 => ?_⟩
          · refine ih (i + 1) (b' + -1) h2 (by omega) (by omega) l2 J m2 ?_
            rw [b4, hdr]
            conv => lhs; unfold begV
            rw [hn1, if_pos c3, if_neg c4]
          · refine PC.no A0 l2 (by omega) ?_
            unfold begA
            rw [if_pos hin, if_pos c2, b4, hdr]
            unfold begV
            rw [hn1, if_pos c3, if_pos (Classical.not_not.mp c4)]
          · refine ih (i + 1) b' h2 (by omega) (by omega) l2 J m2 ?_
            rw [b4, hdr]
            conv => lhs; unfold begV
            rw [hn1, if_neg c3]
    rintro _ h1 w1 s1 ⟨rfl, I, l1, m1⟩
    rw [List.length_map] at I
    exact key F.length 0 b h1 rfl (Nat.zero_le _) l1 I m1 (by rw [List.drop_zero])
  · have hin : inr a 0 25 = true := (bI_ne0 _).mp c
    exact PC.no A0 Le.rfl (by omega) (by unfold begA; rw [if_pos hin, if_neg c2])
end D28
