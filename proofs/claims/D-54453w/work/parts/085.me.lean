/-! SPECS 35: the model's living texts, its squeezing -/
set_option maxRecDepth 100000
theorem usum_split (R : List rw_) (T : List tt_) : usum R true T + tsum (livT R T) = tsum T ∧ usum R false T = tsum (livT R T) := by
  unfold usum livT
  induction T with
  | nil => exact ⟨rfl, rfl⟩
  | cons a T ih =>
    cases hp : pts R a.1 with
    | true =>
      rw [List.filter_cons_of_neg (by simp [hp]), List.filter_cons_of_pos (by simp [hp]), List.filter_cons_of_pos (by simp [hp])]
      simp only [tsum]
      omega
    | false =>
      rw [List.filter_cons_of_pos (by simp [hp]), List.filter_cons_of_neg (by simp [hp]), List.filter_cons_of_neg (by simp [hp])]
      simp only [tsum]
      omega
/-- a row that has j of its texts ahead moved -/
def fcR (L : List tt_) (c : Nat) (r : rw_) : rw_ := (r.1, r.2.1, ((if r.2.2.1 < c then nst L r.2.2.1 else r.2.2.1), r.2.2.2))
theorem nst_mono {L T : List tt_} (h : List.Sublist L T) (s : Nat) : nst L s ≤ nst T s := by
  unfold nst
  have h2 := h.filter (fun t => decide (t.1 < s))
  generalize L.filter (fun t => decide (t.1 < s)) = a at h2
  generalize T.filter (fun t => decide (t.1 < s)) = b at h2
  induction h2 with
  | slnil => exact Nat.le_refl _
  | cons x _ ih => simp only [tsum]; omega
  | cons_cons x _ ih => simp only [tsum]; omega
section D35
variable {G : g_} {ad : Nat → Nat} {h : hp_} {V : Nat → Nat → Int32} {F : Nat → Int32} {S : st_} {σ : sg_}
theorem WS.liv (W : WS σ) : (livT σ.1 σ.2.1).Pairwise (fun a b => a.1 < b.1) ∧ (∀ r ∈ σ.1, ∃ j : Nat, (livT σ.1 σ.2.1)[j]? = some r.2.2) ∧ (∀ (j : Nat) (t : tt_), (livT σ.1 σ.2.1)[j]? = some t → t.1 + t.2.1 ≤ 100 ∧ 1 ≤ t.2.1 ∧ ∃ r ∈ σ.1, r.2.2 = t) ∧ (∀ (i j : Nat) (t u : tt_), i < j → (livT σ.1 σ.2.1)[i]? = some t → (livT σ.1 σ.2.1)[j]? = some u → t.1 + t.2.1 ≤ u.1) ∧ (livT σ.1 σ.2.1).length ≤ 100 ∧ tsum (livT σ.1 σ.2.1) ≤ 100 := by
  have hc := W.2.2.2.2.2.1
  have ht := W.2.2.2.2.2.2
  have hT : ∀ t ∈ livT σ.1 σ.2.1, ∃ k, σ.2.1[k]? = some t := fun t hm => List.getElem?_of_mem (List.mem_filter.mp hm).1
  refine ⟨livT_pw hc, fun r hr => List.getElem?_of_mem (livT_row hr (W.2.1 r hr).2.2), fun j t hj => ?_, fun i j t u hij hi hj => ?_, ?_, ?_⟩
  · have hm := List.mem_of_getElem? hj
    obtain ⟨k, hk⟩ := hT t hm
    have h1 := chn_at hc hk
    refine ⟨by omega, h1.2.1, ?_⟩
    have hp := (List.mem_filter.mp hm).2
    unfold pts at hp
    rw [List.any_eq_true] at hp
    obtain ⟨r, hr, he⟩ := hp
    refine ⟨r, hr, ?_⟩
    obtain ⟨k2, hk2⟩ := List.getElem?_of_mem (W.2.1 r hr).2.2
    have := chn_inj hc hk2 hk (by simpa using he)
    subst this
    rw [hk] at hk2
    exact (Option.some.inj hk2).symm
  · obtain ⟨k, hk⟩ := hT t (List.mem_of_getElem? hi)
    obtain ⟨k2, hk2⟩ := hT u (List.mem_of_getElem? hj)
    have hpw := List.pairwise_iff_getElem.mp (livT_pw (R := σ.1) hc) i j (List.getElem?_eq_some_iff.mp hi).1 (List.getElem?_eq_some_iff.mp hj).1 hij
    rw [(List.getElem?_eq_some_iff.mp hi).2, (List.getElem?_eq_some_iff.mp hj).2] at hpw
    rcases Nat.lt_trichotomy k k2 with q | q | q
    · exact chn_lt hc hk hk2 q
    · subst q
      rw [hk] at hk2
      rw [Option.some.inj hk2] at hpw
      omega
    · have := chn_lt hc hk2 hk q
      omega
  · have h1 := chn_len hc
    have h2 : (livT σ.1 σ.2.1).length ≤ σ.2.1.length := List.length_filter_le _ _
    omega
  · have := tsum_filter_le (fun t => pts σ.1 t.1) σ.2.1
    unfold livT
    omega
/-- which text a row of the next text has -/
theorem nxt_L {R : List rw_} {L : List tt_} {s j : Nat} {o : Option Nat} {g : rw_ → Nat} (hn : nxt R s o) (hj : j ≤ L.length) (hg : ∀ r ∈ R, s ≤ r.2.2.1 → ∃ i : Nat, j ≤ i ∧ L[i]? = some r.2.2) (hL : ∀ t, L[j]? = some t → ∃ r ∈ R, r.2.2 = t ∧ s ≤ t.1) (hp : L.Pairwise (fun a b => a.1 < b.1)) :
    (j = L.length → o = none) ∧ (j < L.length → ∃ (i : Nat) (r : rw_), o = some i ∧ R[i]? = some r ∧ L[j]? = some r.2.2) := by
  refine ⟨fun e => ?_, fun hlt' => ?_⟩
  · cases o with
    | none => rfl
    | some i =>
      obtain ⟨r, r1, r2, -⟩ := hn
      obtain ⟨k, k1, k2⟩ := hg r (List.mem_of_getElem? r1) r2
      have := (List.getElem?_eq_some_iff.mp k2).1
      omega
  · have hx : L[j]? = some L[j] := List.getElem?_eq_getElem hlt'
    obtain ⟨r0, m0, e0, s0⟩ := hL _ hx
    cases o with
    | none =>
      have := hn r0 m0
      rw [e0] at this
      omega
    | some i =>
      obtain ⟨r, r1, r2, r3⟩ := hn
      refine ⟨i, r, rfl, r1, ?_⟩
      obtain ⟨k, k1, k2⟩ := hg r (List.mem_of_getElem? r1) r2
      have h3 := r3 r0 m0 (by rw [e0]; exact s0)
      rw [e0] at h3
      rcases Nat.lt_or_ge j k with q | q
      · have := List.pairwise_iff_getElem.mp hp j k hlt' (List.getElem?_eq_some_iff.mp k2).1 q
        rw [(List.getElem?_eq_some_iff.mp k2).2] at this
        omega
      · have : k = j := by omega
        rw [← this]; exact k2
theorem X3_living_ {b : Bool} (D : MD ad) (A : AR σ (V 0)) (W : WS σ) : QE G M_X3_living [.ref (ad 6), .int (bI b)] (mk_ ad h V F) (nI (if b then tsum (livT σ.1 σ.2.1) else (livT σ.1 σ.2.1).length)) := by
  obtain ⟨hp, hR, hL, hch, hl100, ht100⟩ := W.liv
  obtain ⟨hl, hl24⟩ := A.len
  have hb : ∀ r ∈ σ.1, r.2.2.1 < 1000 := fun r hr => by have := W.st hr; omega
  have key : ∀ (m j : Nat) (o : Option Nat), (livT σ.1 σ.2.1).length - j = m → j ≤ (livT σ.1 σ.2.1).length → (j = (livT σ.1 σ.2.1).length → o = none) → (j < (livT σ.1 σ.2.1).length → ∃ (i : Nat) (r : rw_), o = some i ∧ σ.1[i]? = some r ∧ (livT σ.1 σ.2.1)[j]? = some r.2.2) →
      Go_ G M_X3_living 8 [some (.ref (ad 6)), some (.int (bI b)), some (.int (nI (if b then tsum ((livT σ.1 σ.2.1).take j) else j))), some (.int (orI o))] [] (mk_ ad h V F) (RI fun y h' => y = nI (if b then tsum (livT σ.1 σ.2.1) else (livT σ.1 σ.2.1).length) ∧ h' = mk_ ad h V F) := by
    intro m
    induction m with
    | zero =>
      intro j o hm hj h0 h1
      have hje : j = (livT σ.1 σ.2.1).length := by omega
      rw [h0 hje]
      refine w_X3_living_8 ⟨fun _ => ⟨_, rfl, ?_, rfl⟩, fun c => absurd rfl c⟩
      rw [List.take_of_length_le (by omega), hje]
    | succ m ih =>
      intro j o hm hj h0 h1
      obtain ⟨i, r, e1, r1, r2⟩ := h1 (by omega)
      subst e1
      have hil := (List.getElem?_eq_some_iff.mp r1).1
      have hrm := List.mem_of_getElem? r1
      have hst := W.st hrm
      have hsum : tsum ((livT σ.1 σ.2.1).take (j + 1)) = tsum ((livT σ.1 σ.2.1).take j) + r.2.2.2.1 := by
        rw [List.take_add_one, r2, tsum_app]
        rfl
      have nx : ∀ o', nxt σ.1 (r.2.2.1 + 1) o' → ((j + 1 = (livT σ.1 σ.2.1).length → o' = none) ∧ (j + 1 < (livT σ.1 σ.2.1).length → ∃ (i : Nat) (r : rw_), o' = some i ∧ σ.1[i]? = some r ∧ (livT σ.1 σ.2.1)[j + 1]? = some r.2.2)) := by
        intro o' hn
        refine nxt_L (g := fun _ => 0) hn (by omega) (fun q hq hsq => ?_) (fun t htj => ?_) hp
        · obtain ⟨k, hk⟩ := hR q hq
          refine ⟨k, ?_, hk⟩
          rcases Nat.lt_or_ge j k with z | z
          · exact z
          · exfalso
            rcases Nat.lt_or_ge k j with z2 | z2
            · have := hch k j _ _ z2 hk r2
              omega
            · have : k = j := by omega
              subst this
              rw [r2] at hk
              have := Option.some.inj hk
              rw [this] at hsq
              omega
        · obtain ⟨a1, a2, q, q1, q2⟩ := hL (j + 1) t htj
          refine ⟨q, q1, q2, ?_⟩
          have := hch j (j + 1) _ _ (by omega) r2 htj
          omega
      refine w_X3_living_8 ⟨fun c => absurd c (nI_m5 (by omega)), fun _ => ⟨fun c => ⟨cax mk6, ?_⟩, fun c => ⟨cax mk6, ?_⟩⟩⟩
      · have hb0 := (bI_0 _).mp c
        subst hb0
        refine (X3_of_ (r := i) (w := 2) D (by omega)).use ⟨cax mk6, ?_⟩
        rw [A.at (k := 2) r1 (by omega)]
        show Do_ G _ [.ref (ad 6), .int (nI r.2.2.1 + 1)] _ _
        rw [show nI r.2.2.1 + 1 = nI (r.2.2.1 + 1) from nI_add' _ 1]
        refine (X3_nextText_ D A.1 hb (by omega)).ri ?_
        rintro _ h9 - - ⟨e9, o', rfl, hn⟩
        rw [e9]; clear e9
        obtain ⟨n1, n2⟩ := nx o' hn
        have g := ih (j + 1) o' (by omega) (by omega) n1 n2
        rw [show nI (if false = true then tsum ((livT σ.1 σ.2.1).take j) else j) + 1 = nI (if false = true then tsum ((livT σ.1 σ.2.1).take (j + 1)) else j + 1) from nI_add' j 1]
        exact g
      · have hb1 := (bI_ne0 _).mp c
        subst hb1
        refine (X3_of_ (r := i) (w := 3) D (by omega)).use ⟨cax mk6, (X3_of_ (r := i) (w := 2) D (by omega)).use ⟨cax mk6, ?_⟩⟩
        rw [A.at (k := 2) r1 (by omega), A.at (k := 3) r1 (by omega)]
        show Do_ G _ [.ref (ad 6), .int (nI r.2.2.1 + 1)] _ _
        rw [show nI r.2.2.1 + 1 = nI (r.2.2.1 + 1) from nI_add' _ 1]
        refine (X3_nextText_ D A.1 hb (by omega)).ri ?_
        rintro _ h9 - - ⟨e9, o', rfl, hn⟩
        rw [e9]; clear e9
        obtain ⟨n1, n2⟩ := nx o' hn
        have g := ih (j + 1) o' (by omega) (by omega) n1 n2
        rw [show nI (if true = true then tsum ((livT σ.1 σ.2.1).take j) else j) + rf r 3 = nI (if true = true then tsum ((livT σ.1 σ.2.1).take (j + 1)) else j + 1) from by
          rw [if_pos rfl, if_pos rfl, hsum]; exact nI_add' _ _]
        exact g
  refine e_X3_living ⟨cax mk6, ?_⟩
  refine (X3_nextText_ (s := 0) D A.1 hb (by omega)).ri ?_
  rintro _ h9 - - ⟨e9, o', rfl, hn⟩
  rw [e9]; clear e9
  obtain ⟨n1, n2⟩ := nxt_L (L := livT σ.1 σ.2.1) (j := 0) (g := fun _ => 0) hn (Nat.zero_le _) (fun q hq _ => by obtain ⟨k, hk⟩ := hR q hq; exact ⟨k, Nat.zero_le _, hk⟩) (fun t htj => by obtain ⟨a1, a2, q, q1, q2⟩ := hL 0 t htj; exact ⟨q, q1, q2, Nat.zero_le _⟩) hp
  have g := key _ 0 o' rfl (Nat.zero_le _) n1 n2
  have e0 : nI (if b then tsum ((livT σ.1 σ.2.1).take 0) else 0) = 0 := by cases b <;> rfl
  rw [e0] at g
  exact g
theorem X3_squeezes_ (D : MD ad) (A : AR σ (V 0)) (W : WS σ) : Do_ G M_X3_squeezes [.ref (ad 6)] (mk_ ad h V F) (RI fun y h' => y = (sqzS σ).1 ∧ ∃ V', h' = mk_ ad h V' F ∧ V04 V V' ∧ AR (sqzS σ).2 (V' 0)) := by
  obtain ⟨hp, hR, hL, hch, hl100, ht100⟩ := W.liv
  obtain ⟨hl, hl24⟩ := A.len
  have hc := W.2.2.2.2.2.1
  have hnst : ∀ r ∈ σ.1, nst (livT σ.1 σ.2.1) r.2.2.1 ≤ r.2.2.1 := by
    intro r hr
    obtain ⟨k, hk⟩ := List.getElem?_of_mem (W.2.1 r hr).2.2
    have h1 := nst_mono (L := livT σ.1 σ.2.1) (T := σ.2.1) List.filter_sublist r.2.2.1
    rw [nst_at (chn_pw hc) hk] at h1
    have := chn_at hc hk
    omega
  have hst := fun r hr => W.st (r := r) hr
  -- all rows of the text at c move
  have inner : ∀ (j : Nat) (t : tt_), (livT σ.1 σ.2.1)[j]? = some t → ∀ (m p : Nat) (V1 : Nat → Nat → Int32), σ.1.length - p = m → p ≤ σ.1.length → V04 V V1 → hd4 (V 0) (V1 0) → RA (((σ.1.take p).map (fcR (livT σ.1 σ.2.1) (t.1 + 1)) ++ (σ.1.drop p).map (fcR (livT σ.1 σ.2.1) t.1)).map rf) (V1 0) →
      ∀ {Q : o_ → hp_ → Prop}, (∀ V2, V04 V V2 → hd4 (V 0) (V2 0) → RA ((σ.1.map (fcR (livT σ.1 σ.2.1) (t.1 + 1))).map rf) (V2 0) → (cls_at (mk_ ad h V2 F) (ad 6) = some 3 ∧ Do_ G M_X3_nextText [.ref (ad 6), .int (nI t.1 + nI t.2.1)] (mk_ ad h V2 F) (RI fun x5 h6 => Go_ G M_X3_squeezes 15 [some (.ref (ad 6)), some (.int (nI (tsum σ.2.1))), some (.int (nI (tsum ((livT σ.1 σ.2.1).take j)) + nI t.2.1)), some (.int x5), none, none, none] [] h6 Q))) →
      Go_ G M_X3_squeezes 40 [some (.ref (ad 6)), some (.int (nI (tsum σ.2.1))), some (.int (nI (tsum ((livT σ.1 σ.2.1).take j)))), none, some (.int (nI t.1)), some (.int (nI t.2.1)), some (.int (nI p))] [] (mk_ ad h V1 F) Q := by
    intro j t htj m
    have htb := (hL j t htj).1
    have hnt := nst_at hp htj
    induction m with
    | zero =>
      intro p V1 hm hp' v1 H1 R1 Q fin
      refine w_X3_squeezes_40 ⟨_, gfx mk6 rfl rfl, _, _, 0, mk0 D, ix_nI (j := 0) (by omega) (by omega), fun _ => ?_, fun c => ?_⟩
      · rw [List.take_of_length_le (by omega), List.drop_of_length_le (by omega), List.map_nil, List.append_nil] at R1
        exact fin V1 v1 H1 R1
      · rw [R1.1, List.length_map, List.length_append, List.length_map, List.length_map, List.length_take, List.length_drop] at c
        exact absurd ((nI_le' (by omega) (by omega)).mpr (by omega)) c
    | succ m ih =>
      intro p V1 hm hp' v1 H1 R1 Q fin
      have hx : σ.1[p]? = some σ.1[p] := List.getElem?_eq_getElem (by omega)
      have hxm := List.mem_of_getElem? hx
      have hsx := hst _ hxm
      have hnx := hnst _ hxm
      have hlen : ((σ.1.take p).map (fcR (livT σ.1 σ.2.1) (t.1 + 1)) ++ (σ.1.drop p).map (fcR (livT σ.1 σ.2.1) t.1)).length = σ.1.length := by
        rw [List.length_append, List.length_map, List.length_map, List.length_take, List.length_drop]; omega
      have hltk : ((σ.1.take p).map (fcR (livT σ.1 σ.2.1) (t.1 + 1))).length = p := by rw [List.length_map, List.length_take]; omega
      have hget : ((σ.1.take p).map (fcR (livT σ.1 σ.2.1) (t.1 + 1)) ++ (σ.1.drop p).map (fcR (livT σ.1 σ.2.1) t.1))[p]? = some (fcR (livT σ.1 σ.2.1) t.1 σ.1[p]) := by
        rw [List.getElem?_append_right (by omega), hltk, Nat.sub_self, drop_at hx]
        rfl
      have hset : ((σ.1.take p).map (fcR (livT σ.1 σ.2.1) (t.1 + 1)) ++ (σ.1.drop p).map (fcR (livT σ.1 σ.2.1) t.1)).set p (fcR (livT σ.1 σ.2.1) (t.1 + 1) σ.1[p]) = (σ.1.take (p + 1)).map (fcR (livT σ.1 σ.2.1) (t.1 + 1)) ++ (σ.1.drop (p + 1)).map (fcR (livT σ.1 σ.2.1) t.1) := by
        rw [List.set_append_right _ _ (by omega), hltk, Nat.sub_self, drop_at hx, List.map_cons, List.set_cons_zero, List.take_add_one, hx, List.map_append]
        show _ = (_ ++ [_]) ++ _
        rw [List.append_assoc]
        rfl
      have e2 : V1 0 (5 + 6 * p + 2) = nI (if σ.1[p].2.2.1 < t.1 then nst (livT σ.1 σ.2.1) σ.1[p].2.2.1 else σ.1[p].2.2.1) := by
        have := R1.2.2 p _ (by rw [List.getElem?_map, hget]; rfl) 2 (by omega)
        exact this
      -- the write
      have wr : ∀ v : Nat, v = (if σ.1[p].2.2.1 < t.1 + 1 then nst (livT σ.1 σ.2.1) σ.1[p].2.2.1 else σ.1[p].2.2.1) → Go_ G M_X3_squeezes 40 [some (.ref (ad 6)), some (.int (nI (tsum σ.2.1))), some (.int (nI (tsum ((livT σ.1 σ.2.1).take j)))), none, some (.int (nI t.1)), some (.int (nI t.2.1)), some (.int (nI p + 1))] [] (mk_ ad h (up V1 0 (upd (V1 0) (5 + 6 * p + 2) (nI v))) F) Q := by
        intro v hv
        rw [show nI p + 1 = nI (p + 1) from nI_add' p 1]
        have hrow : ∀ k, k < 6 → upd (rf (fcR (livT σ.1 σ.2.1) t.1 σ.1[p])) 2 (nI v) k = rf (fcR (livT σ.1 σ.2.1) (t.1 + 1) σ.1[p]) k := by
          refine lt6 ?_ ?_ ?_ ?_ ?_ ?_
          · rw [upd_ne _ _ (by omega)]; rfl
          · rw [upd_ne _ _ (by omega)]; rfl
          · rw [upd_at, hv]; rfl
          · rw [upd_ne _ _ (by omega)]; rfl
          · rw [upd_ne _ _ (by omega)]; rfl
          · rw [upd_ne _ _ (by omega)]; rfl
        obtain ⟨g1, g2⟩ := RA_setw (w := 2) R1 hget (by omega) hrow
        rw [hset] at g1
        exact ih (p + 1) _ (by omega) (by omega) (v1.up0 _) (by rw [up_at]; exact H1.tr g2) (by rw [up_at]; exact g1) fin
      refine w_X3_squeezes_40 ⟨_, gfx mk6 rfl rfl, _, _, 0, mk0 D, ix_nI (j := 0) (by omega) (by omega), fun c => ?_, fun c => ⟨cax mk6, (X3_of_ (w := 2) D (by omega)).use ?_⟩⟩
      · rw [R1.1, List.length_map, hlen] at c
        have := (nI_le' (by omega) (by omega)).mp c
        omega
      · rw [e2]
        refine ⟨fun c5 => ⟨cax mk6, (X3_of_ (w := 2) D (by omega)).use ⟨cax mk6, ?_⟩⟩, fun c5 => ⟨cax mk6, ?_⟩⟩
        · rw [e2]
          refine (X3_sets_ (w := 2) D (by omega)).use (wr _ ?_)
          by_cases h1 : σ.1[p].2.2.1 < t.1
          · rw [if_pos h1, if_pos (by omega)]
          · rw [if_neg h1] at c5 ⊢
            have : σ.1[p].2.2.1 ≠ t.1 := fun e => c5 (by rw [e])
            rw [if_neg (by omega)]
        · refine (X3_sets_ (w := 2) D (by omega)).use (wr _ ?_)
          have h5 := Classical.not_not.mp c5
          have h6 : ¬ σ.1[p].2.2.1 < t.1 := by
            intro h1
            rw [if_pos h1] at h5
            have := (nI_eq' (by omega) (by omega)).mp h5
            omega
          rw [if_neg h6] at h5
          have h7 := (nI_eq' (by omega) (by omega)).mp h5
          rw [if_pos (by omega), h7, hnt]
  -- the texts, one after another
  have outer : ∀ (m j c : Nat) (o : Option Nat) (V1 : Nat → Nat → Int32), (livT σ.1 σ.2.1).length - j = m → j ≤ (livT σ.1 σ.2.1).length → V04 V V1 → hd4 (V 0) (V1 0) → RA ((σ.1.map (fcR (livT σ.1 σ.2.1) c)).map rf) (V1 0) → (∀ r ∈ σ.1, r.2.2.1 < c ↔ ∃ i : Nat, i < j ∧ (livT σ.1 σ.2.1)[i]? = some r.2.2) →
      (j = (livT σ.1 σ.2.1).length → o = none) → (j < (livT σ.1 σ.2.1).length → ∃ (i : Nat) (r : rw_), o = some i ∧ σ.1[i]? = some r ∧ (livT σ.1 σ.2.1)[j]? = some r.2.2) →
      Go_ G M_X3_squeezes 15 [some (.ref (ad 6)), some (.int (nI (tsum σ.2.1))), some (.int (nI (tsum ((livT σ.1 σ.2.1).take j)))), some (.int (orI o)), none, none, none] [] (mk_ ad h V1 F) (RI fun y h' => y = (sqzS σ).1 ∧ ∃ V', h' = mk_ ad h V' F ∧ V04 V V' ∧ AR (sqzS σ).2 (V' 0)) := by
    intro m
    induction m with
    | zero =>
      intro j c o V1 hm hj v1 H1 R1 hcj h0 h1
      have hje : j = (livT σ.1 σ.2.1).length := by omega
      rw [h0 hje, List.take_of_length_le (by omega)]
      refine w_X3_squeezes_15 ⟨fun _ => ⟨_, gfx mk6 rfl rfl, _, _, 2, mk0 D, ix_nI (j := 2) (by omega) (by omega), ?_⟩, fun c => absurd rfl c⟩
      rw [set0 D]
      refine ⟨_, gfx mk6 rfl rfl, _, _, 3, mk0 D, ix_nI (j := 3) (by omega) (by omega), _, _, 3, mk0 D, ix_nI (j := 3) (by omega) (by omega), ?_⟩
      rw [set0 D, up_up, up_at]
      refine ⟨_, gfx mk6 rfl rfl, _, _, 4, mk0 D, ix_nI (j := 4) (by omega) (by omega), _, _, 4, mk0 D, ix_nI (j := 4) (by omega) (by omega), ?_⟩
      rw [set0 D, up_up, up_at]
      refine ⟨_, rfl, rfl, _, rfl, v1.up0 _, ?_⟩
      rw [up_at]
      have hfc : σ.1.map (fcR (livT σ.1 σ.2.1) c) = σ.1.map (sqzR (livT σ.1 σ.2.1)) := by
        refine List.map_congr_left fun r hr => ?_
        unfold fcR sqzR
        rw [if_pos]
        refine (hcj r hr).mpr ?_
        obtain ⟨k, hk⟩ := hR r hr
        exact ⟨k, by have := (List.getElem?_eq_some_iff.mp hk).1; omega, hk⟩
      rw [hfc] at R1
      obtain ⟨a1, a2, a3⟩ := R1
      refine AR.mk ⟨?_, a2, fun i f hf k hk => ?_⟩ ?_ ?_ ?_ ?_
      · rw [upd_ne _ _ (by omega), upd_ne _ _ (by omega), upd_ne _ _ (by omega)]; exact a1
      · have hf : ((σ.1.map (sqzR (livT σ.1 σ.2.1))).map rf)[i]? = some f := hf
        rw [upd_ne _ _ (by omega), upd_ne _ _ (by omega), upd_ne _ _ (by omega)]
        exact a3 i f hf k hk
      · rw [upd_ne _ _ (by omega), upd_ne _ _ (by omega), upd_ne _ _ (by omega), H1.1]; exact A.2.1
      · rw [upd_ne _ _ (by omega), upd_ne _ _ (by omega), upd_at]
        show _ = nI (tsum (relay 0 _))
        rw [tsum_relay]
      · rw [upd_ne _ _ (by omega), upd_at, upd_ne _ _ (by omega), H1.2.2.1, A.2.2.2.1]
        rfl
      · rw [upd_at, upd_ne _ _ (by omega), upd_ne _ _ (by omega), H1.2.2.2, A.2.2.2.2]
        rfl
    | succ m ih =>
      intro j c o V1 hm hj v1 H1 R1 hcj h0 h1
      obtain ⟨i, r, e1, r1, r2⟩ := h1 (by omega)
      subst e1
      have hil := (List.getElem?_eq_some_iff.mp r1).1
      have hrm := List.mem_of_getElem? r1
      have hsr := hst _ hrm
      have hnc : ¬ r.2.2.1 < c := by
        intro q
        obtain ⟨k, k1, k2⟩ := (hcj r hrm).mp q
        have := hch k j _ _ k1 k2 r2
        omega
      -- rows ahead of c are those ahead of the text
      have hcc : ∀ q ∈ σ.1, q.2.2.1 < c ↔ q.2.2.1 < r.2.2.1 := by
        intro q hq
        rw [hcj q hq]
        constructor
        · rintro ⟨k, k1, k2⟩
          have := hch k j _ _ k1 k2 r2
          have := (hst q hq).2.2.1
          omega
        · intro q1
          obtain ⟨k, hk⟩ := hR q hq
          refine ⟨k, ?_, hk⟩
          rcases Nat.lt_trichotomy k j with z | z | z
          · exact z
          · subst z
            rw [r2] at hk
            rw [Option.some.inj hk] at q1
            omega
          · have := hch j k _ _ z r2 hk
            omega
      have hfc : σ.1.map (fcR (livT σ.1 σ.2.1) c) = σ.1.map (fcR (livT σ.1 σ.2.1) r.2.2.1) := by
        refine List.map_congr_left fun q hq => ?_
        unfold fcR
        by_cases z : q.2.2.1 < c
        · rw [if_pos z, if_pos ((hcc q hq).mp z)]
        · rw [if_neg z, if_neg (fun e => z ((hcc q hq).mpr e))]
      have e2 : V1 0 (5 + 6 * i + 2) = nI r.2.2.1 := by
        have := R1.2.2 i _ (by rw [List.getElem?_map, List.getElem?_map, r1]; rfl) 2 (by omega)
        rw [this]
        show nI (if r.2.2.1 < c then _ else _) = _
        rw [if_neg hnc]
      have e3 : V1 0 (5 + 6 * i + 3) = nI r.2.2.2.1 := R1.2.2 i _ (by rw [List.getElem?_map, List.getElem?_map, r1]; rfl) 3 (by omega)
      rw [hfc] at R1
      refine w_X3_squeezes_15 ⟨fun c => absurd c (nI_m5 (by omega)), fun _ => ⟨cax mk6, (X3_of_ (r := i) (w := 2) D (by omega)).use ⟨cax mk6, (X3_of_ (r := i) (w := 3) D (by omega)).use ?_⟩⟩⟩
      rw [e2, e3]
      refine inner j r.2.2 r2 σ.1.length 0 V1 rfl (Nat.zero_le _) v1 H1 (by rw [List.take_zero, List.drop_zero]; exact R1) ?_
      intro V2 v2 H2 R2
      have hsum : nI (tsum ((livT σ.1 σ.2.1).take j)) + nI r.2.2.2.1 = nI (tsum ((livT σ.1 σ.2.1).take (j + 1))) := by
        rw [nI_add', List.take_add_one, r2, tsum_app]
        rfl
      rw [hsum, nI_add']
      have hb2 : ∀ q ∈ σ.1.map (fcR (livT σ.1 σ.2.1) (r.2.2.1 + 1)), q.2.2.1 < 1000 := by
        intro q hq
        obtain ⟨u, hu, rfl⟩ := List.mem_map.mp hq
        have h1 := hst u hu
        have h2 := hnst u hu
        show (if _ then _ else _) < 1000
        split <;> omega
      refine ⟨cax mk6, (X3_nextText_ D R2 hb2 (by omega)).ri ?_⟩
      rintro _ h9 - - ⟨e9, o', rfl, hn⟩
      rw [e9]; clear e9
      have hcj2 : ∀ q ∈ σ.1, q.2.2.1 < r.2.2.1 + 1 ↔ ∃ k : Nat, k < j + 1 ∧ (livT σ.1 σ.2.1)[k]? = some q.2.2 := by
        intro q hq
        constructor
        · intro q1
          obtain ⟨k, hk⟩ := hR q hq
          refine ⟨k, ?_, hk⟩
          rcases Nat.lt_or_ge j k with z | z
          · have := hch j k _ _ z r2 hk
            omega
          · omega
        · rintro ⟨k, k1, k2⟩
          rcases Nat.lt_or_ge k j with z | z
          · have := hch k j _ _ z k2 r2
            have := (hst q hq).2.2.1
            omega
          · have : k = j := by omega
            subst this
            rw [r2] at k2
            rw [← Option.some.inj k2]
            omega
      obtain ⟨n1, n2⟩ := nxt_L (R := σ.1.map (fcR (livT σ.1 σ.2.1) (r.2.2.1 + 1))) (L := livT σ.1 σ.2.1) (j := j + 1) (g := fun _ => 0) hn (by omega) (fun q hq hsq => by
        obtain ⟨u, hu, rfl⟩ := List.mem_map.mp hq
        have hnu := hnst u hu
        have hsq : r.2.2.1 + r.2.2.2.1 ≤ (if u.2.2.1 < r.2.2.1 + 1 then nst (livT σ.1 σ.2.1) u.2.2.1 else u.2.2.1) := hsq
        have h7 : ¬ u.2.2.1 < r.2.2.1 + 1 := by
          intro z
          rw [if_pos z] at hsq
          omega
        obtain ⟨k, hk⟩ := hR u hu
        refine ⟨k, ?_, ?_⟩
        · rcases Nat.lt_or_ge j k with z | z
          · exact z
          · exact absurd ((hcj2 u hu).mpr ⟨k, by omega, hk⟩) h7
        · show _ = some ((if _ then _ else _), _)
          rw [if_neg h7]; exact hk) (fun t htj => by
        obtain ⟨a1, a2, q, q1, q2⟩ := hL (j + 1) t htj
        have h8 := hch j (j + 1) _ _ (by omega) r2 htj
        refine ⟨_, List.mem_map_of_mem q1, ?_, h8⟩
        show ((if _ then _ else _), _) = t
        rw [if_neg (by rw [q2]; omega), ← q2]) hp
      refine ih (j + 1) (r.2.2.1 + 1) o' V2 (by omega) (by omega) v2 H2 R2 hcj2 n1 (fun hlt' => ?_)
      obtain ⟨i', r', g1, g2, g3⟩ := n2 hlt'
      rw [List.getElem?_map] at g2
      cases hq : σ.1[i']? with
      | none => rw [hq] at g2; cases g2
      | some u =>
        rw [hq] at g2
        have g2 : fcR (livT σ.1 σ.2.1) (r.2.2.1 + 1) u = r' := Option.some.inj g2
        refine ⟨i', u, g1, hq, ?_⟩
        rw [← g2] at g3
        have hu := List.mem_of_getElem? hq
        have h8 := hch j (j + 1) _ _ (by omega) r2 g3
        have h9 := hnst u hu
        have h8 : r.2.2.1 + r.2.2.2.1 ≤ (if u.2.2.1 < r.2.2.1 + 1 then nst (livT σ.1 σ.2.1) u.2.2.1 else u.2.2.1) := h8
        have h7 : ¬ u.2.2.1 < r.2.2.1 + 1 := by
          intro z
          rw [if_pos z] at h8
          omega
        have g3 : (livT σ.1 σ.2.1)[j + 1]? = some ((if u.2.2.1 < r.2.2.1 + 1 then nst (livT σ.1 σ.2.1) u.2.2.1 else u.2.2.1), u.2.2.2) := g3
        rw [if_neg h7] at g3
        exact g3
  have hb : ∀ r ∈ σ.1, r.2.2.1 < 1000 := fun r hr => by have := hst r hr; omega
  have hf0 : σ.1.map (fcR (livT σ.1 σ.2.1) 0) = σ.1 := by
    have : σ.1.map (fcR (livT σ.1 σ.2.1) 0) = σ.1.map id := by
      refine List.map_congr_left fun r _ => ?_
      unfold fcR
      rw [if_neg (by omega)]
      rfl
    rw [this, List.map_id]
  refine e_X3_squeezes ⟨_, gfx mk6 rfl rfl, _, _, 2, mk0 D, ix_nI (j := 2) (by omega) (by omega), cax mk6, ?_⟩
  refine (X3_nextText_ (s := 0) D A.1 hb (by omega)).ri ?_
  rintro _ h9 - - ⟨e9, o', rfl, hn⟩
  rw [e9]; clear e9
  obtain ⟨n1, n2⟩ := nxt_L (L := livT σ.1 σ.2.1) (j := 0) (g := fun _ => 0) hn (Nat.zero_le _) (fun q hq _ => by obtain ⟨k, hk⟩ := hR q hq; exact ⟨k, Nat.zero_le _, hk⟩) (fun t htj => by obtain ⟨a1, a2, q, q1, q2⟩ := hL 0 t htj; exact ⟨q, q1, q2, Nat.zero_le _⟩) hp
  rw [A.2.2.1]
  have g := outer _ 0 0 o' V rfl (Nat.zero_le _) V04.rfl' ⟨rfl, rfl, rfl, rfl⟩ (by rw [hf0]; exact A.1) (fun r hr => ⟨fun q => by omega, fun ⟨k, k1, _⟩ => by omega⟩) n1 n2
  rw [List.take_zero] at g
  exact g
theorem X3_squeeze_ (D : MD ad) (M : MS S V F) (W : WSS S) : Do_ G M_X3_squeeze [.ref (ad 6)] (mk_ ad h V F) (PM ad h (sqzA S)) := by
  obtain ⟨u1, u2⟩ := usum_split S.1.1 S.1.2.1
  have ht := W.1.2.2.2.2.2.2
  refine e_X3_squeeze ⟨cax mk6, (X3_living_ (b := true) D M.1 W.1).use ⟨_, gfx mk6 rfl rfl, _, _, 2, mk0 D, ix_nI (j := 2) (by omega) (by omega), ?_⟩⟩
  rw [M.1.2.2.1, if_pos rfl]
  refine ⟨fun c => ⟨cax mk6, (X3_remember_ D).rv ?_⟩, fun c => ?_⟩
  · have hne : ¬ usum S.1.1 true S.1.2.1 = 0 := fun e => c (by congr 1; omega)
    rintro h1 - - ⟨f, e1, ff⟩
    rw [e1]; clear e1
    have A1 : AR S.1 ((up V 1 f) 0) := by rw [up_ne _ _ (by omega)]; exact M.1
    refine ⟨cax mk6, (X3_squeezes_ D A1 W.1).ri ?_⟩
    rintro _ h2 - - ⟨rfl, V2, e2, v2, A2⟩
    rw [e2]; clear e2
    exact ⟨cax mk6, PM.act D M W A2 (by rw [v2 1 (by omega) (by omega), up_at]; exact M.1.cong ff) (by rw [v2 2 (by omega) (by omega), up_ne _ _ (by omega)]) (by rw [v2 3 (by omega) (by omega), up_ne _ _ (by omega)]) (by rw [v2 5 (by omega) (by omega), up_ne _ _ (by omega)]) (by unfold sqzA; rw [if_neg hne])⟩
  · have := (nI_eq' (by omega) (by omega)).mp (Classical.not_not.mp c)
    exact PM.no M (by unfold sqzA; rw [if_pos (by omega)])
theorem X3_makeAnew_ {b : Int32} (D : MD ad) (M : MS S V F) (W : WSS S) : Do_ G M_X3_makeAnew [.ref (ad 6), .int b] (mk_ ad h V F) (PM ad h (mkaA S b)) := by
  obtain ⟨hl, hl24⟩ := M.1.len
  have hbl := W.1.2.2.2.2.1
  refine e_X3_makeAnew ((X3_in32_ (lo := 1) (hi := 6) (by decide) (by decide)).use ⟨fun c => ⟨_, gfx mk6 rfl rfl, _, _, 0, mk0 D, ix_nI (j := 0) (by omega) (by omega), ?_⟩, fun c => ?_⟩)
  · have hin : inr b 1 6 = true := (bI_ne0 _).mp c
    obtain ⟨eb, hb1, hb2⟩ := inr_n (l := 1) (k := 6) (by omega) (by omega) hin
    have e4 : (4 : Int32) * b = nI (4 * i2n b) := by rw [show (4 : Int32) = nI 4 from rfl, ← nI_mul', eb]
    rw [hl, e4]
    refine ⟨fun c2 => ⟨_, gfx mk6 rfl rfl, _, _, 1, mk0 D, ix_nI (j := 1) (by omega) (by omega), ?_⟩, fun c2 => ?_⟩
    · have h4 := (nI_le' (by omega) (by omega)).mp c2
      rw [M.1.2.1]
      refine ⟨fun c3 => ⟨cax mk6, (X3_remember_ D).rv ?_⟩, fun c3 => ?_⟩
      · have hne : ¬ S.1.2.2.1 = i2n b := fun e => c3 (by rw [e, eb])
        rintro h1 - - ⟨f, e1, ff⟩
        rw [e1]; clear e1
        have A1 : AR S.1 ((up V 1 f) 0) := by rw [up_ne _ _ (by omega)]; exact M.1
        refine ⟨_, gfx mk6 rfl rfl, _, _, 1, mk0 D, ix_nI (j := 1) (by omega) (by omega), ?_⟩
        rw [set0 D]
        have W' : WS (S.1.1, S.1.2.1, i2n b, S.1.2.2.2) := ⟨W.1.1, W.1.2.1, h4, hb1, hb2, W.1.2.2.2.2.2⟩
        have A2 : AR (S.1.1, S.1.2.1, i2n b, S.1.2.2.2) ((up (up V 1 f) 0 (upd ((up V 1 f) 0) 1 b)) 0) := by
          rw [up_at]
          obtain ⟨⟨a1, a2, a3⟩, a4, a5, a6, a7⟩ := A1
          refine AR.mk ⟨by rw [upd_ne _ _ (by omega)]; exact a1, a2, fun i g hg k hk => by rw [upd_ne _ _ (by omega)]; exact a3 i g hg k hk⟩ ?_ ?_ ?_ ?_
          · rw [upd_at]; exact eb.symm
          · rw [upd_ne _ _ (by omega)]; exact a5
          · rw [upd_ne _ _ (by omega)]; exact a6
          · rw [upd_ne _ _ (by omega)]; exact a7
        refine ⟨cax mk6, (X3_squeezes_ D A2 W').ri ?_⟩
        rintro _ h2 - - ⟨rfl, V2, e2, v2, A3⟩
        rw [e2]; clear e2
        refine ⟨cax mk6, PM.act D M W A3 (by rw [v2 1 (by omega) (by omega), up_ne _ _ (by omega), up_at]; exact M.1.cong ff) (by rw [v2 2 (by omega) (by omega), up_ne _ _ (by omega), up_ne _ _ (by omega)]) (by rw [v2 3 (by omega) (by omega), up_ne _ _ (by omega), up_ne _ _ (by omega)]) (by rw [v2 5 (by omega) (by omega), up_ne _ _ (by omega), up_ne _ _ (by omega)]) ?_⟩
        unfold mkaA
        rw [if_pos hin, if_neg (by omega), if_neg hne]
      · have he : S.1.2.2.1 = i2n b := by
          have := Classical.not_not.mp c3
          rw [← eb] at this
          exact (nI_eq' (by omega) (by omega)).mp this
        refine PM.no M ?_
        unfold mkaA
        rw [if_pos hin, if_neg (by omega), if_pos he]
    · have : ¬ S.1.1.length ≤ 4 * i2n b := fun e => c2 ((nI_le' (by omega) (by omega)).mpr e)
      refine PM.no M ?_
      unfold mkaA
      rw [if_pos hin, if_pos (by omega)]
  · have hin : inr b 1 6 = false := (bI_0 _).mp (Classical.not_not.mp c)
    exact PM.no M (by unfold mkaA; rw [hin]; rfl)
end D35
