/-! SPECS 23: a shelf is squeezed: what is told, made -/
set_option maxRecDepth 100000
section D23
variable {G : g_} {lo : Nat} {h : hp_} {s d el ar n tl ta nt : Nat} {F : List (EN × tt_)} {bl : Nat} {K : List (Nat × tt_)} {sq gb : Int32} {σ : sg_} {N : Nat}
theorem X1_squeeze_ {f0 : Nat → Option Nat} (hw : hwf h) (hz : hget h (gz G) = some (eR 0 f0)) (A : SHL G lo h s σ N) (Wσ : WS σ) (hlo : lo ≤ hsz h) :
    Do_ G M_X1_squeeze [.ref s] h (RI fun y h' => y = (sqzS σ).1 ∧ (∃ N', SHL G lo h' s (sqzS σ).2 N' ∧ hm h' + 4 * N ≤ hm h + 4 * N' + 2200) ∧ Fr lo h h') := by
  obtain ⟨d, el, ar, n, tl, ta, nt, F, K, A, eR_, eT, rfl⟩ := A
  obtain ⟨R, T, bl, sq, gb⟩ := σ
  have eR_ : R = F.map rwo := eR_
  have eT : T = K.map Prod.snd := eT
  have A : SHA G lo h s d el ar n tl ta nt F bl K sq gb := A
  have hc : chn 0 T := Wσ.2.2.2.2.2.1
  have ht : tsum T ≤ 100 := Wσ.2.2.2.2.2.2
  have hs : srt R := Wσ.1
  subst eR_
  subst eT
  have hKl : K.length ≤ 100 := by have := chn_len hc; rw [List.length_map] at this; omega
  obtain ⟨mt, ft, a3⟩ := A.2.2.1
  have htl : tl < hsz h := hlt hw a3.1
  have hta : ta < hsz h := hlt hw a3.2.1
  have hll : lo ≤ tl := A.2.2.2.2.2.2.2.2.2.1
  have hlta : lo ≤ ta ∨ nt = 0 := A.2.2.2.2.2.2.2.2.2.2.1
  have key : ∀ (j i : Nat) (h1 : hp_) (mo : Int32) (ao no ol it : Nat) (fo : Nat → Option Nat), K.length - i = j → i ≤ K.length → hwf h1 → Le h h1 → hsz h ≤ hsz h1 → AL G h1 ol (((K.take i).filter (fun k => pts (F.map rwo) k.2.1)).map Prod.fst) mo ao no fo → IT h1 it tl mt i → hsz h ≤ ol → hsz h ≤ it → (hsz h ≤ ao ∨ no = 0) → hm h1 ≤ hm h + 4 * no + 5 * i + 14 →
      Go_ G M_X1_squeeze 23 [some (.ref s), some (.int (nI (tsum (K.map Prod.snd)))), some (.ref ol), some (.ref it), none, none, none, none] [] h1 (RI fun y h' => y = (sqzS (F.map rwo, K.map Prod.snd, bl, sq, gb)).1 ∧ (∃ N', SHL G lo h' s (sqzS (F.map rwo, K.map Prod.snd, bl, sq, gb)).2 N' ∧ hm h' + 4 * (n + nt) ≤ hm h + 4 * N' + 2200) ∧ Fr lo h h') := by
    intro j
    induction j with
    | zero =>
      intro i h1 mo ao no ol it fo hj hi w1 l1 s1 O I1 ho hit hao g1
      have I0 := I1
      obtain ⟨lr, I⟩ := I1
      have A1 := A.le l1
      have O150 := O.2.2.2.1
      rw [List.take_of_length_le (by omega)] at O
      refine w_X1_squeeze_23 ⟨cax I, (J13_hasNext_ (a3.le l1) I0 (by rw [List.length_map]; omega)).use ⟨fun _ => ⟨_, gfx A1.1 rfl rfl, cax (l1 _ _ a3.1), (J2_clearK_ (hlt w1 (l1 _ _ a3.1)) (a3.le l1)).rv ?_⟩, fun c => ?_⟩⟩
      · rintro h2 w2 s2 ⟨⟨ft', A2⟩, k2, m2⟩
        have a31 := a3.le l1
        have gne : ao ≠ ta ∨ no = 0 ∨ nt = 0 := by
          rcases hao with q | q
          · left; omega
          · right; left; exact q
        have kx : ∀ q c fs, c ≠ 11 → hget h1 q = some (eO c fs) → hget h2 q = some (eO c fs) := fun q c fs hc z => k2 _ _ (hgn z a31.1 (by simp [hc])) (Or.inl (hgn z a31.2.1 (by simp))) z
        have O2 : AL G h2 ol ((K.filter (fun k => pts (F.map rwo) k.2.1)).map Prod.fst) mo ao no fo := ⟨k2 _ _ (by omega) (Or.inl (hgn O.1 a31.2.1 (by simp))) O.1, k2 _ _ (hgn O.2.1 a31.1 (by simp)) (sepR gne O.2.1 a31.2.1) O.2.1, O.2.2⟩
        refine ⟨cax O2.1, (J2_iterator_ w2 O2).rn ?_⟩
        rintro _ h3 w3 s3 ⟨rfl, I3, l3, m3⟩
        have D2 : DR G h2 d el ar n (F.map Prod.fst) bl := by
          obtain ⟨d1, ⟨mc, f, d2⟩, d3, d4⟩ := A1.2.1
          exact ⟨kx _ _ _ (by omega) d1, ⟨mc, f, k2 _ _ A.2.2.2.2.2.2.2.2.2.2.2.1 (Or.inl (hgn d2.1 a31.2.1 (by simp))) d2.1, k2 _ _ (hgn d2.2.1 a31.1 (by simp)) (sepR A.2.2.2.2.2.2.2.2.2.2.2.2.1 d2.2.1 a31.2.1) d2.2.1, d2.2.2⟩, fun e he => (d3 e he).kl a31 k2, d4⟩
        have Z2 : ZI G h3 s d tl sq gb K [] (mt + 1) ta nt ft' (K.filter (fun k => pts (F.map rwo) k.2.1)) ol mo ao no fo (hsz h2) 0 := by
          refine ⟨l3 _ _ (kx _ _ _ (by omega) A1.1), A2.le l3, fun k hk => by simp at hk, fun k hk => ?_, O2.le l3, I3⟩
          exact l3 _ _ (kx _ _ _ (by omega) (A1.2.2.2.1 k hk))
        have fr : Fr lo h h3 := ((l1.fr lo).trans (k2.fr hll hlta)).trans (l3.fr lo)
        refine Go_.mono (sq80_ (h := h) (C := 4 * no + 5 * i + 19) (ol := ol) (ao := ao) (no := no) (it := hsz h2) (mo := mo) (fo := fo) hw A hs hc ht hlo ho (by omega) (K.filter (fun k => pts (F.map rwo) k.2.1)).length 0 h3 F [] (mt + 1) ta nt ft' rfl (Nat.zero_le _) w3 (by omega) Z2 (D2.le l3) (PW.zero _ _ _) rfl (fun k hk => by simp at hk) A.2.2.2.2.2.2.2.2.2.2.2.2.1 gne hlta fr (by omega)) ?_
        rintro o h4 - - - ⟨x, e, y1, ⟨N', y2, y3⟩, y4⟩
        exact ⟨x, e, y1, ⟨N', y2, by omega⟩, y4⟩
      · rw [List.length_map, decide_eq_false (by omega)] at c
        exact absurd rfl c
    | succ j ih =>
      intro i h1 mo ao no ol it fo hj hi w1 l1 s1 O I1 ho hit hao g1
      have hx : K[i]? = some K[i] := List.getElem?_eq_getElem (by omega)
      have hxm := List.mem_of_getElem? hx
      have I0 := I1
      obtain ⟨lr, I⟩ := I1
      refine w_X1_squeeze_23 ⟨cax I, (J13_hasNext_ (a3.le l1) I0 (by rw [List.length_map]; omega)).use ⟨fun c => ?_, fun _ => ⟨cax I, (J13_next_ (x := K[i].1) (a3.le l1) I0 (by rw [List.getElem?_map, hx]; rfl)).rn ?_⟩⟩⟩
      · rw [List.length_map, decide_eq_true (by omega)] at c
        exact absurd c (by decide)
      · rintro _ h2 w2 s2 ⟨rfl, e2⟩
        have kp : ∀ q e, q ≠ it → hget h1 q = some e → hget h2 q = some e := fun q e hq z => by rw [e2, hset_ne _ _ hq]; exact z
        have l2 : Le h h2 := fun q e z => kp _ _ (by have := hlt hw z; omega) (l1 _ _ z)
        have m2 : hm h2 = hm h1 := by rw [e2, hm_set]
        have O2 : AL G h2 ol (((K.take i).filter (fun k => pts (F.map rwo) k.2.1)).map Prod.fst) mo ao no fo := ⟨kp _ _ (hgn O.1 I (by simp)) O.1, kp _ _ (hgn O.2.1 I (by simp)) O.2.1, O.2.2⟩
        have J2 : hget h2 it = some (eO 14 [.int (nI (i + 1)), .int (nI i), .int mt, .ref tl]) := by rw [e2]; exact hset_at _ _ _
        have A2 := A.le l2
        have kt : txt h2 _ _ _ _ := A2.2.2.2.1 _ hxm
        refine ⟨7, cax kt, by simp, cax A2.1, (X1_isDead_ w2 A2 hc ht hxm).use fun h3 w3 s3 l3 m3 => ?_⟩
        have O3 := O2.le l3
        have J3 := l3 _ _ J2
        have l03 := l2.trans l3
        have htk : ∀ b, pts (F.map rwo) K[i].2.1 = b → (K.take (i + 1)).filter (fun k => pts (F.map rwo) k.2.1) = (K.take i).filter (fun k => pts (F.map rwo) k.2.1) ++ (if b then [K[i]] else []) := by
          intro b hb
          rw [List.take_add_one, hx, List.filter_append]
          congr 1
          cases b with
          | true => simp [hb]
          | false => simp [hb]
        refine ⟨fun c => ?_, fun c => ?_⟩
        · have hd : pts (F.map rwo) K[i].2.1 = false := by
            have := (bI_ne0 _).mp c
            simpa using this
          have e3 := htk false hd
          rw [if_neg (by decide), List.append_nil] at e3
          rw [← e3] at O3
          exact ih (i + 1) h3 mo ao no ol it fo (by omega) (by omega) w3 l03 (by omega) O3 ⟨_, J3⟩ ho hit hao (by omega)
        · have hd : pts (F.map rwo) K[i].2.1 = true := by
            have := (bI_0 _).mp (Classical.not_not.mp c)
            simpa using this
          have e3 := htk true hd
          rw [if_pos rfl] at e3
          have ob : ∀ x ∈ ((K.take i).filter (fun k => pts (F.map rwo) k.2.1)).map Prod.fst, obk h3 x := by
            intro x hx
            obtain ⟨y, hy, rfl⟩ := List.mem_map.mp hx
            exact Or.inl ⟨7, _, (A.le l03).2.2.2.1 y (List.mem_of_mem_take (List.mem_filter.mp hy).1), by decide⟩
          have hlf : (((K.take i).filter (fun k => pts (F.map rwo) k.2.1)).map Prod.fst).length ≤ 100 := by
            rw [List.length_map]
            refine Nat.le_trans (List.length_filter_le _ _) ?_
            rw [List.length_take]; omega
          refine ⟨cax O3.1, (J2_add_ w3 O3 hlf ob (Or.inl ⟨7, _, l3 _ _ kt, by decide⟩)).ri ?_⟩
          rintro _ h4 w4 s4 ⟨-, ao', no', fo', O4, W⟩
          have k4 : KL ol ao no h3 h4 := W.1
          rw [show ((K.take i).filter (fun k => pts (F.map rwo) k.2.1)).map Prod.fst ++ [K[i].1] = ((K.take (i + 1)).filter (fun k => pts (F.map rwo) k.2.1)).map Prod.fst from by rw [e3, List.map_append]; rfl] at O4
          refine ih (i + 1) h4 _ ao' no' ol it fo' (by omega) (by omega) w4 (KL.le hw l03 ho hao k4) (by omega) O4 ⟨_, k4 _ _ (hgn J3 O3.1 (by simp)) (Or.inl (hgn J3 O3.2.1 (by simp))) J3⟩ ho hit ?_ ?_
          · rcases W.2.1 with ⟨u1, u2, u3⟩ | u
            · rw [u1]; exact Or.inl (hao.resolve_right u3)
            · left; omega
          · have := W.2.2
            omega
  refine e_X1_squeeze ⟨cax A.1, (X1_end_ A hc ht).use ⟨cax (hnew_at _ _ _), (J2_init_ (v3 := 0) (hwf_new hw _ _) (hnew_old hw hz) (hnew_at _ _ _)).rv ?_⟩⟩
  rintro h3 w3 s3 ⟨O, rfl⟩
  rw [hset_new] at *
  have l3 : Le h (hnew h (eO 11 [.int 0, .ref (gz G), .int 0]) 3) := Le.new hw _ _
  have m3 : hm (hnew h (eO 11 [.int 0, .ref (gz G), .int 0]) 3) = hm h + 4 := hm_new _ _ _
  have z3 : hsz (hnew h (eO 11 [.int 0, .ref (gz G), .int 0]) 3) = hsz h + 1 := hsz_new _ _ _
  generalize hnew h (eO 11 [.int 0, .ref (gz G), .int 0]) 3 = h3 at *
  refine ⟨_, gfx (l3 _ _ A.1) rfl rfl, cax (l3 _ _ a3.1), (J2_iterator_ w3 (a3.le l3)).rn ?_⟩
  rintro _ h6 w6 s6 ⟨rfl, I6, l6, m6⟩
  exact key K.length 0 h6 0 (gz G) 0 (hsz h) (hsz h3) f0 rfl (Nat.zero_le _) w6 (l3.trans l6) (by omega) (O.le l6) I6 (Nat.le_refl _) (by omega) (Or.inr rfl) (by omega)
end D23
