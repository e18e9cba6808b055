set_option maxRecDepth 100000
def dkwJ17_equals_0 : List UInt8 := [42, 43, 166, 0, 7, 4, 167, 0, 4, 3, 172]
abbrev dktJ17_equals_0 : List UInt8 := dkwJ17_equals_0 ++ []
theorem dksJ17_equals_0 : cJ17_equals.data.toList.drop 0 = dktJ17_equals_0 := by decide +kernel
theorem dJ17_equals_0 : decode cJ17_equals 0 = .ok (.aload_n 0, 1) := dk_42 (dk_at dksJ17_equals_0 0 rfl rfl)
theorem dJ17_equals_1 : decode cJ17_equals 1 = .ok (.aload_n 1, 1) := dk_43 (dk_at dksJ17_equals_0 1 rfl rfl)
theorem dJ17_equals_2 : decode cJ17_equals 2 = .ok (.if_acmp .ne 7, 3) := dk_166 0 7 (dk_at dksJ17_equals_0 2 rfl rfl)
theorem dJ17_equals_5 : decode cJ17_equals 5 = .ok (.iconst 1, 1) := dk_4 (dk_at dksJ17_equals_0 5 rfl rfl)
theorem dJ17_equals_6 : decode cJ17_equals 6 = .ok (.goto 4, 3) := dk_167 0 4 (dk_at dksJ17_equals_0 6 rfl rfl)
theorem dJ17_equals_9 : decode cJ17_equals 9 = .ok (.iconst 0, 1) := dk_3 (dk_at dksJ17_equals_0 9 rfl rfl)
theorem dJ17_equals_10 : decode cJ17_equals 10 = .ok (.ireturn, 1) := dk_172 (dk_at dksJ17_equals_0 10 rfl rfl)

def tb_J17_equals (G : g_) : Nat → sem_ := (tN 5 (tN 1 (tL 0 (s_ald 0 1)) (tN 2 (tL 1 (s_ald 1 2)) (tL 2 (s_acmp false 9 5)))) (tN 9 (tN 6 (tL 5 (s_v (.int 1) 6)) (tL 6 (s_goto 10))) (tN 10 (tL 9 (s_v (.int 0) 10)) (tL 10 (s_zret .boolean)))))
theorem ok_J17_equals (G : g_) : ∀ pc, SemOK G M_J17_equals pc (tb_J17_equals G pc) := (okN (okN (okL (o_aloadn dJ17_equals_0 rfl)) (okN (okL (o_aloadn dJ17_equals_1 rfl)) (okL (o_acmpne dJ17_equals_2 (by decide))))) (okN (okN (okL (o_iconst dJ17_equals_5 (by decide +kernel))) (okL (o_goto dJ17_equals_6 (by decide)))) (okN (okL (o_iconst dJ17_equals_9 (by decide +kernel))) (okL (o_zret dJ17_equals_10 rfl)))))
theorem e_J17_equals {G : g_} {p0 : Nat} {p1 : Nat} {h : hp_} {Q : o_ → hp_ → Prop} (k : ((Value.ref p0 = Value.ref p1 → (narrow .boolean (.int 1) = .int 1 ∧ Q (.inl (some (.int 1))) h)) ∧ (¬ Value.ref p0 = Value.ref p1 → (narrow .boolean (.int 0) = .int 0 ∧ Q (.inl (some (.int 0))) h)))) : Do_ G M_J17_equals [.ref p0, .ref p1] h Q :=
  Do_.enter (L := [some (.ref p0), some (.ref p1)]) (by decide +kernel) rfl (Nat.le_of_ble_eq_true rfl) trivial rfl (wp_ok (ok_J17_equals G) [] 7 0 _ [] h k)
