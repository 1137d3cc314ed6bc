/-! WHAT THE CODE OF THE REFERENCE ASKS, method by method (printed by gen/gentw.py): v<method>_<pc> : the formula gives the judgement at pc -/
set_option maxRecDepth 100000
theorem vX3_thrown_0 {G : wq_G} {l : Launch} {o : Nat} {ad : Nat → Nat} {h : wq_H} {d : Nat} {K : Int32 → tw_S → Prop} (ok : tw_ok G o ad)   {s : tw_S} (V : K (s.1 0) s) : tw_T G l o ad h d mX3_thrown (tw_qi G o ad h K) 0 [some (.ref o)] [] s := by
  refine wq_aload_n (pc := 0) dX3_thrown_0 rfl rfl ?_
  refine tg0 (pc := 1) rfl dX3_thrown_1 ?_
  refine wq_iret (pc := 4) dX3_thrown_4 rfl ⟨_, _, rfl, rfl, V⟩
theorem vX3_feed_0 {G : wq_G} {l : Launch} {o : Nat} {ad : Nat → Nat} {h : wq_H} {d : Nat} {K : Int32 → tw_S → Prop} (ok : tw_ok G o ad)  {x1 : Int32} {x2 : Int32} {x3 : Int32} {x4 : Int32} {x5 : Int32} {s : tw_S} (V : tw_pt s 0 (0 : Int32) (fun s1 => (((s1.1 2) + (20 : Int32)) ≤ (900 : Int32) → tw_T G l o ad h d mX3_feed (tw_qi G o ad h K) 23 [some (.ref o), some (.int x1), some (.int x2), some (.int x3), some (.int x4), some (.int x5), some (.int (0 : Int32)), none] [] s1) ∧ (¬ ((s1.1 2) + (20 : Int32)) ≤ (900 : Int32) → K (-1 : Int32) s1))) : tw_T G l o ad h d mX3_feed (tw_qi G o ad h K) 0 [some (.ref o), some (.int x1), some (.int x2), some (.int x3), some (.int x4), some (.int x5), none, none] [] s := by
  refine wq_aload_n (pc := 0) dX3_feed_0 rfl rfl ?_
  refine wq_iconst (pc := 1) dX3_feed_1 csti0 ?_
  refine tp0 (pc := 2) rfl ok dX3_feed_2 V (fun s1 V => ?_)
  refine wq_aload_n (pc := 5) dX3_feed_5 rfl rfl ?_
  refine tg2 (pc := 6) rfl dX3_feed_6 ?_
  refine wq_bipush (pc := 9) dX3_feed_9 cstb20 ?_
  refine wq_iadd (pc := 11) dX3_feed_11 ?_
  refine wq_sipush (pc := 12) dX3_feed_12 csts900 ?_
  refine wq_icmp_le (pc := 15) (tgt := 20) dX3_feed_15 rfl (fun c => ?_) (fun c => ?_)
  · have V := V.1 c
    refine wq_iconst (pc := 20) dX3_feed_20 csti0 ?_
    refine wq_istore (L' := [some (.ref o), some (.int x1), some (.int x2), some (.int x3), some (.int x4), some (.int x5), some (.int (0 : Int32)), none]) (pc := 21) dX3_feed_21 (Nat.le_of_ble_eq_true rfl) rfl ?_
    exact V
  · have V := V.2 c
    refine wq_iconst (pc := 18) dX3_feed_18 cstim1 ?_
    refine wq_iret (pc := 19) dX3_feed_19 rfl ⟨_, _, rfl, rfl, V⟩
theorem vX3_feed_23 {G : wq_G} {l : Launch} {o : Nat} {ad : Nat → Nat} {h : wq_H} {d : Nat} {K : Int32 → tw_S → Prop} (ok : tw_ok G o ad)  {x1 : Int32} {x2 : Int32} {x3 : Int32} {x4 : Int32} {x5 : Int32} {x6 : Int32} {s : tw_S} (V : ((20 : Int32) ≤ x6 → K (s.1 2) s) ∧ (¬ (20 : Int32) ≤ x6 → ((4 : Int32) ≤ x6 → ((8 : Int32) ≤ x6 → ((12 : Int32) ≤ x6 → ((16 : Int32) ≤ x6 → tw_T G l o ad h d mX3_feed (tw_qi G o ad h K) 76 [some (.ref o), some (.int x1), some (.int x2), some (.int x3), some (.int x4), some (.int x5), some (.int x6), none] [.int x5] s) ∧ (¬ (16 : Int32) ≤ x6 → tw_T G l o ad h d mX3_feed (tw_qi G o ad h K) 76 [some (.ref o), some (.int x1), some (.int x2), some (.int x3), some (.int x4), some (.int x5), some (.int x6), none] [.int x4] s)) ∧ (¬ (12 : Int32) ≤ x6 → tw_T G l o ad h d mX3_feed (tw_qi G o ad h K) 76 [some (.ref o), some (.int x1), some (.int x2), some (.int x3), some (.int x4), some (.int x5), some (.int x6), none] [.int x3] s)) ∧ (¬ (8 : Int32) ≤ x6 → tw_T G l o ad h d mX3_feed (tw_qi G o ad h K) 76 [some (.ref o), some (.int x1), some (.int x2), some (.int x3), some (.int x4), some (.int x5), some (.int x6), none] [.int x2] s)) ∧ (¬ (4 : Int32) ≤ x6 → tw_T G l o ad h d mX3_feed (tw_qi G o ad h K) 76 [some (.ref o), some (.int x1), some (.int x2), some (.int x3), some (.int x4), some (.int x5), some (.int x6), none] [.int x1] s))) : tw_T G l o ad h d mX3_feed (tw_qi G o ad h K) 23 [some (.ref o), some (.int x1), some (.int x2), some (.int x3), some (.int x4), some (.int x5), some (.int x6), none] [] s := by
  refine wq_iload (pc := 23) dX3_feed_23 rfl ?_
  refine wq_bipush (pc := 25) dX3_feed_25 cstb20 ?_
  refine wq_icmp_ge (pc := 27) (tgt := 120) dX3_feed_27 rfl (fun c => ?_) (fun c => ?_)
  · have V := V.1 c
    refine wq_aload_n (pc := 120) dX3_feed_120 rfl rfl ?_
    refine tg2 (pc := 121) rfl dX3_feed_121 ?_
    refine wq_iret (pc := 124) dX3_feed_124 rfl ⟨_, _, rfl, rfl, V⟩
  · have V := V.2 c
    refine wq_iload (pc := 30) dX3_feed_30 rfl ?_
    refine wq_iconst (pc := 32) dX3_feed_32 csti4 ?_
    refine wq_icmp_ge (pc := 33) (tgt := 40) dX3_feed_33 rfl (fun c => ?_) (fun c => ?_)
    · have V := V.1 c
      refine wq_iload (pc := 40) dX3_feed_40 rfl ?_
      refine wq_bipush (pc := 42) dX3_feed_42 cstb8 ?_
      refine wq_icmp_ge (pc := 44) (tgt := 51) dX3_feed_44 rfl (fun c => ?_) (fun c => ?_)
      · have V := V.1 c
        refine wq_iload (pc := 51) dX3_feed_51 rfl ?_
        refine wq_bipush (pc := 53) dX3_feed_53 cstb12 ?_
        refine wq_icmp_ge (pc := 55) (tgt := 62) dX3_feed_55 rfl (fun c => ?_) (fun c => ?_)
        · have V := V.1 c
          refine wq_iload (pc := 62) dX3_feed_62 rfl ?_
          refine wq_bipush (pc := 64) dX3_feed_64 cstb16 ?_
          refine wq_icmp_ge (pc := 66) (tgt := 74) dX3_feed_66 rfl (fun c => ?_) (fun c => ?_)
          · have V := V.1 c
            refine wq_iload (pc := 74) dX3_feed_74 rfl ?_
            exact V
          · have V := V.2 c
            refine wq_iload (pc := 69) dX3_feed_69 rfl ?_
            refine wq_goto (pc := 71) (tgt := 76) dX3_feed_71 rfl ?_
            exact V
        · have V := V.2 c
          refine wq_iload_n (pc := 58) dX3_feed_58 rfl rfl ?_
          refine wq_goto (pc := 59) (tgt := 76) dX3_feed_59 rfl ?_
          exact V
      · have V := V.2 c
        refine wq_iload_n (pc := 47) dX3_feed_47 rfl rfl ?_
        refine wq_goto (pc := 48) (tgt := 76) dX3_feed_48 rfl ?_
        exact V
    · have V := V.2 c
      refine wq_iload_n (pc := 36) dX3_feed_36 rfl rfl ?_
      refine wq_goto (pc := 37) (tgt := 76) dX3_feed_37 rfl ?_
      exact V
theorem vX3_feed_76 {G : wq_G} {l : Launch} {o : Nat} {ad : Nat → Nat} {h : wq_H} {d : Nat} {K : Int32 → tw_S → Prop} (ok : tw_ok G o ad)  {x1 : Int32} {x2 : Int32} {x3 : Int32} {x4 : Int32} {x5 : Int32} {x6 : Int32} {z0 : Int32} {s : tw_S} (V : tw_st s 1 (s.1 2) ((z0 >>> (((24 : Int32) - ((8 : Int32) * (x6 - x6 / (4 : Int32) * (4 : Int32)))) &&& 31)) &&& (255 : Int32)) (fun s1 => tw_pt s1 2 ((s1.1 2) + (1 : Int32)) (fun s2 => tw_T G l o ad h d mX3_feed (tw_qi G o ad h K) 23 [some (.ref o), some (.int x1), some (.int x2), some (.int x3), some (.int x4), some (.int x5), some (.int (x6 + (1 : Int32))), none] [] s2))) : tw_T G l o ad h d mX3_feed (tw_qi G o ad h K) 76 [some (.ref o), some (.int x1), some (.int x2), some (.int x3), some (.int x4), some (.int x5), some (.int x6), none] [.int z0] s := by
  refine wq_istore (L' := [some (.ref o), some (.int x1), some (.int x2), some (.int x3), some (.int x4), some (.int x5), some (.int x6), some (.int z0)]) (pc := 76) dX3_feed_76 (Nat.le_of_ble_eq_true rfl) rfl ?_
  refine wq_aload_n (pc := 78) dX3_feed_78 rfl rfl ?_
  refine tg1 (pc := 79) rfl dX3_feed_79 ?_
  refine wq_aload_n (pc := 82) dX3_feed_82 rfl rfl ?_
  refine tg2 (pc := 83) rfl dX3_feed_83 ?_
  refine wq_iload (pc := 86) dX3_feed_86 rfl ?_
  refine wq_bipush (pc := 88) dX3_feed_88 cstb24 ?_
  refine wq_bipush (pc := 90) dX3_feed_90 cstb8 ?_
  refine wq_iload (pc := 92) dX3_feed_92 rfl ?_
  refine wq_iconst (pc := 94) dX3_feed_94 csti4 ?_
  refine wq_irem (pc := 95) dX3_feed_95 (by decide) ?_
  refine wq_imul (pc := 96) dX3_feed_96 ?_
  refine wq_isub (pc := 97) dX3_feed_97 ?_
  refine wq_ishr (pc := 98) dX3_feed_98 ?_
  refine wq_sipush (pc := 99) dX3_feed_99 csts255 ?_
  refine wq_iand (pc := 102) dX3_feed_102 ?_
  refine tw_iast' (pc := 103) ok mia1 dX3_feed_103 V (fun s1 V => ?_)
  refine wq_aload_n (pc := 104) dX3_feed_104 rfl rfl ?_
  refine wq_dup (pc := 105) dX3_feed_105 rfl ?_
  refine tg2 (pc := 106) rfl dX3_feed_106 ?_
  refine wq_iconst (pc := 109) dX3_feed_109 csti1 ?_
  refine wq_iadd (pc := 110) dX3_feed_110 ?_
  refine tp2 (pc := 111) rfl ok dX3_feed_111 V (fun s2 V => ?_)
  refine wq_iinc (L' := [some (.ref o), some (.int x1), some (.int x2), some (.int x3), some (.int x4), some (.int x5), some (.int (x6 + (1 : Int32))), some (.int z0)]) (pc := 114) dX3_feed_114 rfl (by rw [csti1]) (Nat.le_of_ble_eq_true rfl) rfl ?_
  refine wq_goto (pc := 117) (tgt := 23) dX3_feed_117 rfl ?_
  exact wq_T.less V ⟨rfl, ⟨rfl, ⟨rfl, ⟨rfl, ⟨rfl, ⟨rfl, ⟨rfl, trivial⟩⟩⟩⟩⟩⟩⟩
theorem vX3_book_0 {G : wq_G} {l : Launch} {o : Nat} {ad : Nat → Nat} {h : wq_H} {d : Nat} {K : Int32 → tw_S → Prop} (ok : tw_ok G o ad)  {x1 : Int32} {s : tw_S} (V : tw_cv G l o ad h d mX3_good [.ref o] s (fun s1 => tw_ci G l o ad h d mX3_within [.int x1, .int (0 : Int32), .int (s1.1 2)] s1 (fun y3 s2 => (¬ y3 = 0 → tw_pt s2 2 (0 : Int32) (fun s4 => tw_pt s4 9 (0 : Int32) (fun s5 => tw_pt s5 13 (0 : Int32) (fun s6 => tw_T G l o ad h d mX3_book (tw_qi G o ad h K) 39 [some (.ref o), some (.int x1), some (.int (0 : Int32))] [] s6)))) ∧ (y3 = 0 → tw_ci G l o ad h d mX3_no [.ref o, .int (2 : Int32)] s2 (fun y8 s7 => K y8 s7))))) : tw_T G l o ad h d mX3_book (tw_qi G o ad h K) 0 [some (.ref o), some (.int x1), none] [] s := by
  refine wq_aload_n (pc := 0) dX3_book_0 rfl rfl ?_
  refine tcq1836 (pc := 1) (As := []) (st := []) rfl dX3_book_1 rfl (Nat.le_of_ble_eq_true rfl) V (tw_kv (fun s1 V => ?_))
  refine wq_iload_n (pc := 4) dX3_book_4 rfl rfl ?_
  refine wq_iconst (pc := 5) dX3_book_5 csti0 ?_
  refine wq_aload_n (pc := 6) dX3_book_6 rfl rfl ?_
  refine tg2 (pc := 7) rfl dX3_book_7 ?_
  refine tcq1840 (pc := 10) (As := [.int x1, .int (0 : Int32), .int (s1.1 2)]) (st := []) rfl dX3_book_10 rfl (Nat.le_of_ble_eq_true rfl) V (tw_ki (fun y3 s2 V => ?_))
  refine wq_if_ne (pc := 13) (tgt := 22) dX3_book_13 rfl (fun c => ?_) (fun c => ?_)
  · have V := V.1 c
    refine wq_aload_n (pc := 22) dX3_book_22 rfl rfl ?_
    refine wq_iconst (pc := 23) dX3_book_23 csti0 ?_
    refine tp2 (pc := 24) rfl ok dX3_book_24 V (fun s4 V => ?_)
    refine wq_aload_n (pc := 27) dX3_book_27 rfl rfl ?_
    refine wq_iconst (pc := 28) dX3_book_28 csti0 ?_
    refine tp9 (pc := 29) rfl ok dX3_book_29 V (fun s5 V => ?_)
    refine wq_aload_n (pc := 32) dX3_book_32 rfl rfl ?_
    refine wq_iconst (pc := 33) dX3_book_33 csti0 ?_
    refine tpc13_0 (pc := 34) rfl ok dX3_book_34 V (fun s6 V => ?_)
    refine wq_iconst (pc := 37) dX3_book_37 csti0 ?_
    refine wq_istore_n (L' := [some (.ref o), some (.int x1), some (.int (0 : Int32))]) (pc := 38) dX3_book_38 rfl (Nat.le_of_ble_eq_true rfl) rfl ?_
    exact V
  · have V := V.2 c
    refine wq_aload_n (pc := 16) dX3_book_16 rfl rfl ?_
    refine wq_iconst (pc := 17) dX3_book_17 csti2 ?_
    refine tcq1843 (pc := 18) (As := [.int (2 : Int32)]) (st := []) rfl dX3_book_18 rfl (Nat.le_of_ble_eq_true rfl) V (tw_ki (fun y8 s7 V => ?_))
    refine wq_iret (pc := 21) dX3_book_21 rfl ⟨_, _, rfl, rfl, V⟩
theorem vX3_book_39 {G : wq_G} {l : Launch} {o : Nat} {ad : Nat → Nat} {h : wq_H} {d : Nat} {K : Int32 → tw_S → Prop} (ok : tw_ok G o ad)  {x1 : Int32} {x2 : Int32} {s : tw_S} (V : ((346 : Int32) ≤ x2 → tw_pt s 3 x1 (fun s1 => tw_pt s1 5 (0 : Int32) (fun s2 => tw_cv G l o ad h d mX3_next [.ref o] s2 (fun s3 => tw_cv G l o ad h d mX3_readLine [.ref o] s3 (fun s4 => tw_T G l o ad h d mX3_book (tw_qi G o ad h K) 77 [some (.ref o), none, none] [] s4))))) ∧ (¬ (346 : Int32) ≤ x2 → tw_st s 16 x2 (0 : Int32) (fun s5 => tw_T G l o ad h d mX3_book (tw_qi G o ad h K) 39 [some (.ref o), some (.int x1), some (.int (x2 + (1 : Int32)))] [] s5))) : tw_T G l o ad h d mX3_book (tw_qi G o ad h K) 39 [some (.ref o), some (.int x1), some (.int x2)] [] s := by
  refine wq_iload_n (pc := 39) dX3_book_39 rfl rfl ?_
  refine wq_sipush (pc := 40) dX3_book_40 csts346 ?_
  refine wq_icmp_ge (pc := 43) (tgt := 59) dX3_book_43 rfl (fun c => ?_) (fun c => ?_)
  · have V := V.1 c
    refine wq_aload_n (pc := 59) dX3_book_59 rfl rfl ?_
    refine wq_iload_n (pc := 60) dX3_book_60 rfl rfl ?_
    refine tp3 (pc := 61) rfl ok dX3_book_61 V (fun s1 V => ?_)
    refine wq_aload_n (pc := 64) dX3_book_64 rfl rfl ?_
    refine wq_iconst (pc := 65) dX3_book_65 csti0 ?_
    refine tp5 (pc := 66) rfl ok dX3_book_66 V (fun s2 V => ?_)
    refine wq_aload_n (pc := 69) dX3_book_69 rfl rfl ?_
    refine tcq1847 (pc := 70) (As := []) (st := []) rfl dX3_book_70 rfl (Nat.le_of_ble_eq_true rfl) V (tw_kv (fun s3 V => ?_))
    refine wq_aload_n (pc := 73) dX3_book_73 rfl rfl ?_
    refine tcq1861 (pc := 74) (As := []) (st := []) rfl dX3_book_74 rfl (Nat.le_of_ble_eq_true rfl) V (tw_kv (fun s4 V => ?_))
    exact wq_T.less V ⟨rfl, trivial⟩
  · have V := V.2 c
    refine wq_aload_n (pc := 46) dX3_book_46 rfl rfl ?_
    refine tg16 (pc := 47) rfl dX3_book_47 ?_
    refine wq_iload_n (pc := 50) dX3_book_50 rfl rfl ?_
    refine wq_iconst (pc := 51) dX3_book_51 csti0 ?_
    refine tw_iast' (pc := 52) ok mia16 dX3_book_52 V (fun s5 V => ?_)
    refine wq_iinc (L' := [some (.ref o), some (.int x1), some (.int (x2 + (1 : Int32)))]) (pc := 53) dX3_book_53 rfl (by rw [csti1]) (Nat.le_of_ble_eq_true rfl) rfl ?_
    refine wq_goto (pc := 56) (tgt := 39) dX3_book_56 rfl ?_
    exact V
theorem vX3_book_77 {G : wq_G} {l : Launch} {o : Nat} {ad : Nat → Nat} {h : wq_H} {d : Nat} {K : Int32 → tw_S → Prop} (ok : tw_ok G o ad)   {s : tw_S} (V : (¬ (s.1 13) = 0 → (¬ (s.1 13) = 0 → tw_T G l o ad h d mX3_book (tw_qi G o ad h K) 127 [some (.ref o), none, none] [] s) ∧ ((s.1 13) = 0 → ((s.1 6) = 0 → tw_T G l o ad h d mX3_book (tw_qi G o ad h K) 127 [some (.ref o), none, none] [] s) ∧ (¬ (s.1 6) = 0 → tw_cv G l o ad h d mX3_wrong [.ref o, .int (1 : Int32), .int (s.1 4)] s (fun s1 => tw_T G l o ad h d mX3_book (tw_qi G o ad h K) 127 [some (.ref o), none, none] [] s1)))) ∧ ((s.1 13) = 0 → (¬ (s.1 6) = (59 : Int32) → (¬ (s.1 13) = 0 → tw_T G l o ad h d mX3_book (tw_qi G o ad h K) 127 [some (.ref o), none, none] [] s) ∧ ((s.1 13) = 0 → ((s.1 6) = 0 → tw_T G l o ad h d mX3_book (tw_qi G o ad h K) 127 [some (.ref o), none, none] [] s) ∧ (¬ (s.1 6) = 0 → tw_cv G l o ad h d mX3_wrong [.ref o, .int (1 : Int32), .int (s.1 4)] s (fun s2 => tw_T G l o ad h d mX3_book (tw_qi G o ad h K) 127 [some (.ref o), none, none] [] s2)))) ∧ ((s.1 6) = (59 : Int32) → tw_cv G l o ad h d mX3_next [.ref o] s (fun s3 => tw_cv G l o ad h d mX3_readLine [.ref o] s3 (fun s4 => tw_T G l o ad h d mX3_book (tw_qi G o ad h K) 77 [some (.ref o), none, none] [] s4))))) : tw_T G l o ad h d mX3_book (tw_qi G o ad h K) 77 [some (.ref o), none, none] [] s := by
  refine wq_aload_n (pc := 77) dX3_book_77 rfl rfl ?_
  refine tg13 (pc := 78) rfl dX3_book_78 ?_
  refine wq_if_ne (pc := 81) (tgt := 104) dX3_book_81 rfl (fun c => ?_) (fun c => ?_)
  · have V := V.1 c
    refine wq_aload_n (pc := 104) dX3_book_104 rfl rfl ?_
    refine tg13 (pc := 105) rfl dX3_book_105 ?_
    refine wq_if_ne (pc := 108) (tgt := 127) dX3_book_108 rfl (fun c => ?_) (fun c => ?_)
    · have V := V.1 c
      exact V
    · have V := V.2 c
      refine wq_aload_n (pc := 111) dX3_book_111 rfl rfl ?_
      refine tg6 (pc := 112) rfl dX3_book_112 ?_
      refine wq_if_eq (pc := 115) (tgt := 127) dX3_book_115 rfl (fun c => ?_) (fun c => ?_)
      · have V := V.1 c
        exact V
      · have V := V.2 c
        refine wq_aload_n (pc := 118) dX3_book_118 rfl rfl ?_
        refine wq_iconst (pc := 119) dX3_book_119 csti1 ?_
        refine wq_aload_n (pc := 120) dX3_book_120 rfl rfl ?_
        refine tg4 (pc := 121) rfl dX3_book_121 ?_
        refine tcq1893 (pc := 124) (As := [.int (1 : Int32), .int (s.1 4)]) (st := []) rfl dX3_book_124 rfl (Nat.le_of_ble_eq_true rfl) V (tw_kv (fun s1 V => ?_))
        exact V
  · have V := V.2 c
    refine wq_aload_n (pc := 84) dX3_book_84 rfl rfl ?_
    refine tg6 (pc := 85) rfl dX3_book_85 ?_
    refine wq_bipush (pc := 88) dX3_book_88 cstb59 ?_
    refine wq_icmp_ne (pc := 90) (tgt := 104) dX3_book_90 rfl (fun c => ?_) (fun c => ?_)
    · have V := V.1 c
      refine wq_aload_n (pc := 104) dX3_book_104 rfl rfl ?_
      refine tg13 (pc := 105) rfl dX3_book_105 ?_
      refine wq_if_ne (pc := 108) (tgt := 127) dX3_book_108 rfl (fun c => ?_) (fun c => ?_)
      · have V := V.1 c
        exact V
      · have V := V.2 c
        refine wq_aload_n (pc := 111) dX3_book_111 rfl rfl ?_
        refine tg6 (pc := 112) rfl dX3_book_112 ?_
        refine wq_if_eq (pc := 115) (tgt := 127) dX3_book_115 rfl (fun c => ?_) (fun c => ?_)
        · have V := V.1 c
          exact V
        · have V := V.2 c
          refine wq_aload_n (pc := 118) dX3_book_118 rfl rfl ?_
          refine wq_iconst (pc := 119) dX3_book_119 csti1 ?_
          refine wq_aload_n (pc := 120) dX3_book_120 rfl rfl ?_
          refine tg4 (pc := 121) rfl dX3_book_121 ?_
          refine tcq1893 (pc := 124) (As := [.int (1 : Int32), .int (s.1 4)]) (st := []) rfl dX3_book_124 rfl (Nat.le_of_ble_eq_true rfl) V (tw_kv (fun s2 V => ?_))
          exact V
    · have V := V.2 c
      refine wq_aload_n (pc := 93) dX3_book_93 rfl rfl ?_
      refine tcq1847 (pc := 94) (As := []) (st := []) rfl dX3_book_94 rfl (Nat.le_of_ble_eq_true rfl) V (tw_kv (fun s3 V => ?_))
      refine wq_aload_n (pc := 97) dX3_book_97 rfl rfl ?_
      refine tcq1861 (pc := 98) (As := []) (st := []) rfl dX3_book_98 rfl (Nat.le_of_ble_eq_true rfl) V (tw_kv (fun s4 V => ?_))
      refine wq_goto (pc := 101) (tgt := 77) dX3_book_101 rfl ?_
      exact V
theorem vX3_book_127 {G : wq_G} {l : Launch} {o : Nat} {ad : Nat → Nat} {h : wq_H} {d : Nat} {K : Int32 → tw_S → Prop} (ok : tw_ok G o ad)   {s : tw_S} (V : (¬ (s.1 13) = 0 → ((s.1 13) = 0 → tw_T G l o ad h d mX3_book (tw_qi G o ad h K) 179 [some (.ref o), none, some (.int (0 : Int32))] [] s) ∧ (¬ (s.1 13) = 0 → tw_ci G l o ad h d mX3_no [.ref o, .int (4 : Int32)] s (fun y2 s1 => K y2 s1))) ∧ ((s.1 13) = 0 → tw_ld s 16 (49 : Int32) (fun y3 => (y3 = 0 → tw_cv G l o ad h d mX3_wrong [.ref o, .int (6 : Int32), .int (s.1 4)] s (fun s4 => ((s4.1 13) = 0 → tw_T G l o ad h d mX3_book (tw_qi G o ad h K) 179 [some (.ref o), none, some (.int (0 : Int32))] [] s4) ∧ (¬ (s4.1 13) = 0 → tw_ci G l o ad h d mX3_no [.ref o, .int (4 : Int32)] s4 (fun y6 s5 => K y6 s5)))) ∧ (¬ y3 = 0 → tw_ld s 16 (50 : Int32) (fun y7 => (¬ y7 = 0 → ((s.1 13) = 0 → tw_T G l o ad h d mX3_book (tw_qi G o ad h K) 179 [some (.ref o), none, some (.int (0 : Int32))] [] s) ∧ (¬ (s.1 13) = 0 → tw_ci G l o ad h d mX3_no [.ref o, .int (4 : Int32)] s (fun y9 s8 => K y9 s8))) ∧ (y7 = 0 → tw_cv G l o ad h d mX3_wrong [.ref o, .int (6 : Int32), .int (s.1 4)] s (fun s10 => ((s10.1 13) = 0 → tw_T G l o ad h d mX3_book (tw_qi G o ad h K) 179 [some (.ref o), none, some (.int (0 : Int32))] [] s10) ∧ (¬ (s10.1 13) = 0 → tw_ci G l o ad h d mX3_no [.ref o, .int (4 : Int32)] s10 (fun y12 s11 => K y12 s11))))))))) : tw_T G l o ad h d mX3_book (tw_qi G o ad h K) 127 [some (.ref o), none, none] [] s := by
  refine wq_aload_n (pc := 127) dX3_book_127 rfl rfl ?_
  refine tg13 (pc := 128) rfl dX3_book_128 ?_
  refine wq_if_ne (pc := 131) (tgt := 164) dX3_book_131 rfl (fun c => ?_) (fun c => ?_)
  · have V := V.1 c
    refine wq_aload_n (pc := 164) dX3_book_164 rfl rfl ?_
    refine tg13 (pc := 165) rfl dX3_book_165 ?_
    refine wq_if_eq (pc := 168) (tgt := 177) dX3_book_168 rfl (fun c => ?_) (fun c => ?_)
    · have V := V.1 c
      refine wq_iconst (pc := 177) dX3_book_177 csti0 ?_
      refine wq_istore_n (L' := [some (.ref o), none, some (.int (0 : Int32))]) (pc := 178) dX3_book_178 rfl (Nat.le_of_ble_eq_true rfl) rfl ?_
      exact V
    · have V := V.2 c
      refine wq_aload_n (pc := 171) dX3_book_171 rfl rfl ?_
      refine wq_iconst (pc := 172) dX3_book_172 csti4 ?_
      refine tcq1843 (pc := 173) (As := [.int (4 : Int32)]) (st := []) rfl dX3_book_173 rfl (Nat.le_of_ble_eq_true rfl) V (tw_ki (fun y2 s1 V => ?_))
      refine wq_iret (pc := 176) dX3_book_176 rfl ⟨_, _, rfl, rfl, V⟩
  · have V := V.2 c
    refine wq_aload_n (pc := 134) dX3_book_134 rfl rfl ?_
    refine tg16 (pc := 135) rfl dX3_book_135 ?_
    refine wq_bipush (pc := 138) dX3_book_138 cstb49 ?_
    refine tw_iald' (pc := 140) ok mia16 dX3_book_140 V (fun y3 V => ?_)
    refine wq_if_eq (pc := 141) (tgt := 154) dX3_book_141 rfl (fun c => ?_) (fun c => ?_)
    · have V := V.1 c
      refine wq_aload_n (pc := 154) dX3_book_154 rfl rfl ?_
      refine wq_bipush (pc := 155) dX3_book_155 cstb6 ?_
      refine wq_aload_n (pc := 157) dX3_book_157 rfl rfl ?_
      refine tg4 (pc := 158) rfl dX3_book_158 ?_
      refine tcq1893 (pc := 161) (As := [.int (6 : Int32), .int (s.1 4)]) (st := []) rfl dX3_book_161 rfl (Nat.le_of_ble_eq_true rfl) V (tw_kv (fun s4 V => ?_))
      refine wq_aload_n (pc := 164) dX3_book_164 rfl rfl ?_
      refine tg13 (pc := 165) rfl dX3_book_165 ?_
      refine wq_if_eq (pc := 168) (tgt := 177) dX3_book_168 rfl (fun c => ?_) (fun c => ?_)
      · have V := V.1 c
        refine wq_iconst (pc := 177) dX3_book_177 csti0 ?_
        refine wq_istore_n (L' := [some (.ref o), none, some (.int (0 : Int32))]) (pc := 178) dX3_book_178 rfl (Nat.le_of_ble_eq_true rfl) rfl ?_
        exact V
      · have V := V.2 c
        refine wq_aload_n (pc := 171) dX3_book_171 rfl rfl ?_
        refine wq_iconst (pc := 172) dX3_book_172 csti4 ?_
        refine tcq1843 (pc := 173) (As := [.int (4 : Int32)]) (st := []) rfl dX3_book_173 rfl (Nat.le_of_ble_eq_true rfl) V (tw_ki (fun y6 s5 V => ?_))
        refine wq_iret (pc := 176) dX3_book_176 rfl ⟨_, _, rfl, rfl, V⟩
    · have V := V.2 c
      refine wq_aload_n (pc := 144) dX3_book_144 rfl rfl ?_
      refine tg16 (pc := 145) rfl dX3_book_145 ?_
      refine wq_bipush (pc := 148) dX3_book_148 cstb50 ?_
      refine tw_iald' (pc := 150) ok mia16 dX3_book_150 V (fun y7 V => ?_)
      refine wq_if_ne (pc := 151) (tgt := 164) dX3_book_151 rfl (fun c => ?_) (fun c => ?_)
      · have V := V.1 c
        refine wq_aload_n (pc := 164) dX3_book_164 rfl rfl ?_
        refine tg13 (pc := 165) rfl dX3_book_165 ?_
        refine wq_if_eq (pc := 168) (tgt := 177) dX3_book_168 rfl (fun c => ?_) (fun c => ?_)
        · have V := V.1 c
          refine wq_iconst (pc := 177) dX3_book_177 csti0 ?_
          refine wq_istore_n (L' := [some (.ref o), none, some (.int (0 : Int32))]) (pc := 178) dX3_book_178 rfl (Nat.le_of_ble_eq_true rfl) rfl ?_
          exact V
        · have V := V.2 c
          refine wq_aload_n (pc := 171) dX3_book_171 rfl rfl ?_
          refine wq_iconst (pc := 172) dX3_book_172 csti4 ?_
          refine tcq1843 (pc := 173) (As := [.int (4 : Int32)]) (st := []) rfl dX3_book_173 rfl (Nat.le_of_ble_eq_true rfl) V (tw_ki (fun y9 s8 V => ?_))
          refine wq_iret (pc := 176) dX3_book_176 rfl ⟨_, _, rfl, rfl, V⟩
      · have V := V.2 c
        refine wq_aload_n (pc := 154) dX3_book_154 rfl rfl ?_
        refine wq_bipush (pc := 155) dX3_book_155 cstb6 ?_
        refine wq_aload_n (pc := 157) dX3_book_157 rfl rfl ?_
        refine tg4 (pc := 158) rfl dX3_book_158 ?_
        refine tcq1893 (pc := 161) (As := [.int (6 : Int32), .int (s.1 4)]) (st := []) rfl dX3_book_161 rfl (Nat.le_of_ble_eq_true rfl) V (tw_kv (fun s10 V => ?_))
        refine wq_aload_n (pc := 164) dX3_book_164 rfl rfl ?_
        refine tg13 (pc := 165) rfl dX3_book_165 ?_
        refine wq_if_eq (pc := 168) (tgt := 177) dX3_book_168 rfl (fun c => ?_) (fun c => ?_)
        · have V := V.1 c
          refine wq_iconst (pc := 177) dX3_book_177 csti0 ?_
          refine wq_istore_n (L' := [some (.ref o), none, some (.int (0 : Int32))]) (pc := 178) dX3_book_178 rfl (Nat.le_of_ble_eq_true rfl) rfl ?_
          exact V
        · have V := V.2 c
          refine wq_aload_n (pc := 171) dX3_book_171 rfl rfl ?_
          refine wq_iconst (pc := 172) dX3_book_172 csti4 ?_
          refine tcq1843 (pc := 173) (As := [.int (4 : Int32)]) (st := []) rfl dX3_book_173 rfl (Nat.le_of_ble_eq_true rfl) V (tw_ki (fun y12 s11 V => ?_))
          refine wq_iret (pc := 176) dX3_book_176 rfl ⟨_, _, rfl, rfl, V⟩
theorem vX3_book_179 {G : wq_G} {l : Launch} {o : Nat} {ad : Nat → Nat} {h : wq_H} {d : Nat} {K : Int32 → tw_S → Prop} (ok : tw_ok G o ad)  {x2 : Int32} {s : tw_S} (V : ((346 : Int32) ≤ x2 → tw_pt s 14 (1 : Int32) (fun s1 => tw_cv G l o ad h d mX3_noCoins [.ref o] s1 (fun s2 => tw_pt s2 24 (0 : Int32) (fun s3 => tw_pt s3 25 (0 : Int32) (fun s4 => tw_pt s4 26 (0 : Int32) (fun s5 => tw_ld s5 15 (50 : Int32) (fun y6 => K y6 s5))))))) ∧ (¬ (346 : Int32) ≤ x2 → tw_ld s 16 x2 (fun y7 => tw_st s 15 x2 y7 (fun s8 => tw_T G l o ad h d mX3_book (tw_qi G o ad h K) 179 [some (.ref o), none, some (.int (x2 + (1 : Int32)))] [] s8)))) : tw_T G l o ad h d mX3_book (tw_qi G o ad h K) 179 [some (.ref o), none, some (.int x2)] [] s := by
  refine wq_iload_n (pc := 179) dX3_book_179 rfl rfl ?_
  refine wq_sipush (pc := 180) dX3_book_180 csts346 ?_
  refine wq_icmp_ge (pc := 183) (tgt := 204) dX3_book_183 rfl (fun c => ?_) (fun c => ?_)
  · have V := V.1 c
    refine wq_aload_n (pc := 204) dX3_book_204 rfl rfl ?_
    refine wq_iconst (pc := 205) dX3_book_205 csti1 ?_
    refine tpc14_1 (pc := 206) rfl ok dX3_book_206 V (fun s1 V => ?_)
    refine wq_aload_n (pc := 209) dX3_book_209 rfl rfl ?_
    refine tcq1971 (pc := 210) (As := []) (st := []) rfl dX3_book_210 rfl (Nat.le_of_ble_eq_true rfl) V (tw_kv (fun s2 V => ?_))
    refine wq_aload_n (pc := 213) dX3_book_213 rfl rfl ?_
    refine wq_iconst (pc := 214) dX3_book_214 csti0 ?_
    refine tp24 (pc := 215) rfl ok dX3_book_215 V (fun s3 V => ?_)
    refine wq_aload_n (pc := 218) dX3_book_218 rfl rfl ?_
    refine wq_iconst (pc := 219) dX3_book_219 csti0 ?_
    refine tp25 (pc := 220) rfl ok dX3_book_220 V (fun s4 V => ?_)
    refine wq_aload_n (pc := 223) dX3_book_223 rfl rfl ?_
    refine wq_iconst (pc := 224) dX3_book_224 csti0 ?_
    refine tp26 (pc := 225) rfl ok dX3_book_225 V (fun s5 V => ?_)
    refine wq_aload_n (pc := 228) dX3_book_228 rfl rfl ?_
    refine tg15 (pc := 229) rfl dX3_book_229 ?_
    refine wq_bipush (pc := 232) dX3_book_232 cstb50 ?_
    refine tw_iald' (pc := 234) ok mia15 dX3_book_234 V (fun y6 V => ?_)
    refine wq_iret (pc := 235) dX3_book_235 rfl ⟨_, _, rfl, rfl, V⟩
  · have V := V.2 c
    refine wq_aload_n (pc := 186) dX3_book_186 rfl rfl ?_
    refine tg15 (pc := 187) rfl dX3_book_187 ?_
    refine wq_iload_n (pc := 190) dX3_book_190 rfl rfl ?_
    refine wq_aload_n (pc := 191) dX3_book_191 rfl rfl ?_
    refine tg16 (pc := 192) rfl dX3_book_192 ?_
    refine wq_iload_n (pc := 195) dX3_book_195 rfl rfl ?_
    refine tw_iald' (pc := 196) ok mia16 dX3_book_196 V (fun y7 V => ?_)
    refine tw_iast' (pc := 197) ok mia15 dX3_book_197 V (fun s8 V => ?_)
    refine wq_iinc (L' := [some (.ref o), none, some (.int (x2 + (1 : Int32)))]) (pc := 198) dX3_book_198 rfl (by rw [csti1]) (Nat.le_of_ble_eq_true rfl) rfl ?_
    refine wq_goto (pc := 201) (tgt := 179) dX3_book_201 rfl ?_
    exact V
theorem vX3_good_0 {G : wq_G} {l : Launch} {o : Nat} {ad : Nat → Nat} {h : wq_H} {d : Nat} {K : tw_S → Prop} (ok : tw_ok G o ad)   {s : tw_S} (V : tw_pt s 0 (0 : Int32) (fun s1 => tw_pt s1 11 (0 : Int32) (fun s2 => K s2))) : tw_T G l o ad h d mX3_good (tw_qv G o ad h K) 0 [some (.ref o)] [] s := by
  refine wq_aload_n (pc := 0) dX3_good_0 rfl rfl ?_
  refine wq_iconst (pc := 1) dX3_good_1 csti0 ?_
  refine tp0 (pc := 2) rfl ok dX3_good_2 V (fun s1 V => ?_)
  refine wq_aload_n (pc := 5) dX3_good_5 rfl rfl ?_
  refine wq_iconst (pc := 6) dX3_good_6 csti0 ?_
  refine tp11 (pc := 7) rfl ok dX3_good_7 V (fun s2 V => ?_)
  refine wq_vret (pc := 10) dX3_good_10 rfl ⟨_, rfl, rfl, V⟩
theorem vX3_within_0 {G : wq_G} {l : Launch} {o : Nat} {ad : Nat → Nat} {h : wq_H} {d : Nat} {K : Int32 → tw_S → Prop} (ok : tw_ok G o ad)  {x0 : Int32} {x1 : Int32} {x2 : Int32} {s : tw_S} (V : (x0 < x1 → K (0 : Int32) s) ∧ (¬ x0 < x1 → (x2 < x0 → K (0 : Int32) s) ∧ (¬ x2 < x0 → K (1 : Int32) s))) : tw_T G l o ad h d mX3_within (tw_qi G o ad h K) 0 [some (.int x0), some (.int x1), some (.int x2)] [] s := by
  refine wq_iload_n (pc := 0) dX3_within_0 rfl rfl ?_
  refine wq_iload_n (pc := 1) dX3_within_1 rfl rfl ?_
  refine wq_icmp_lt (pc := 2) (tgt := 14) dX3_within_2 rfl (fun c => ?_) (fun c => ?_)
  · have V := V.1 c
    refine wq_iconst (pc := 14) dX3_within_14 csti0 ?_
    refine wq_zret (pc := 15) dX3_within_15 rfl tw_nb0 ⟨_, _, rfl, rfl, V⟩
  · have V := V.2 c
    refine wq_iload_n (pc := 5) dX3_within_5 rfl rfl ?_
    refine wq_iload_n (pc := 6) dX3_within_6 rfl rfl ?_
    refine wq_icmp_gt (pc := 7) (tgt := 14) dX3_within_7 rfl (fun c => ?_) (fun c => ?_)
    · have V := V.1 c
      refine wq_iconst (pc := 14) dX3_within_14 csti0 ?_
      refine wq_zret (pc := 15) dX3_within_15 rfl tw_nb0 ⟨_, _, rfl, rfl, V⟩
    · have V := V.2 c
      refine wq_iconst (pc := 10) dX3_within_10 csti1 ?_
      refine wq_goto (pc := 11) (tgt := 15) dX3_within_11 rfl ?_
      refine wq_zret (pc := 15) dX3_within_15 rfl tw_nb1 ⟨_, _, rfl, rfl, V⟩
theorem vX3_no_0 {G : wq_G} {l : Launch} {o : Nat} {ad : Nat → Nat} {h : wq_H} {d : Nat} {K : Int32 → tw_S → Prop} (ok : tw_ok G o ad)  {x1 : Int32} {s : tw_S} (V : tw_pt s 11 x1 (fun s1 => K (-1 : Int32) s1)) : tw_T G l o ad h d mX3_no (tw_qi G o ad h K) 0 [some (.ref o), some (.int x1)] [] s := by
  refine wq_aload_n (pc := 0) dX3_no_0 rfl rfl ?_
  refine wq_iload_n (pc := 1) dX3_no_1 rfl rfl ?_
  refine tp11 (pc := 2) rfl ok dX3_no_2 V (fun s1 V => ?_)
  refine wq_iconst (pc := 5) dX3_no_5 cstim1 ?_
  refine wq_iret (pc := 6) dX3_no_6 rfl ⟨_, _, rfl, rfl, V⟩
theorem vX3_next_0 {G : wq_G} {l : Launch} {o : Nat} {ad : Nat → Nat} {h : wq_H} {d : Nat} {K : tw_S → Prop} (ok : tw_ok G o ad)   {s : tw_S} (V : tw_T G l o ad h d mX3_next (tw_qv G o ad h K) 5 [some (.ref o), some (.int (s.1 5)), none, none] [] s) : tw_T G l o ad h d mX3_next (tw_qv G o ad h K) 0 [some (.ref o), none, none, none] [] s := by
  refine wq_aload_n (pc := 0) dX3_next_0 rfl rfl ?_
  refine tg5 (pc := 1) rfl dX3_next_1 ?_
  refine wq_istore_n (L' := [some (.ref o), some (.int (s.1 5)), none, none]) (pc := 4) dX3_next_4 rfl (Nat.le_of_ble_eq_true rfl) rfl ?_
  exact V
theorem vX3_next_5 {G : wq_G} {l : Launch} {o : Nat} {ad : Nat → Nat} {h : wq_H} {d : Nat} {K : tw_S → Prop} (ok : tw_ok G o ad)  {x1 : Int32} {s : tw_S} (V : tw_ci G l o ad h d mX3_see [.ref o, .int x1] s (fun y2 s1 => (¬ y2 = (32 : Int32) → tw_pt s1 4 x1 (fun s3 => tw_ci G l o ad h d mX3_see [.ref o, .int x1] s3 (fun y5 s4 => tw_pt s4 8 (0 : Int32) (fun s6 => tw_pt s6 7 (0 : Int32) (fun s7 => (¬ y5 = (-1 : Int32) → tw_ci G l o ad h d mX3_isSmall [.int y5] s7 (fun y9 s8 => (y9 = 0 → tw_ci G l o ad h d mX3_isDigit [.int y5] s8 (fun y11 s10 => (y11 = 0 → tw_pt s10 5 (x1 + (1 : Int32)) (fun s12 => (y5 = (59 : Int32) → tw_pt s12 6 y5 (fun s13 => K s13)) ∧ (¬ y5 = (59 : Int32) → (y5 = (44 : Int32) → tw_pt s12 6 y5 (fun s14 => K s14)) ∧ (¬ y5 = (44 : Int32) → (¬ y5 = (45 : Int32) → tw_pt s12 6 (1 : Int32) (fun s15 => K s15)) ∧ (y5 = (45 : Int32) → tw_pt s12 6 y5 (fun s16 => K s16)))))) ∧ (¬ y11 = 0 → tw_T G l o ad h d mX3_next (tw_qv G o ad h K) 152 [some (.ref o), some (.int x1), none, some (.int (0 : Int32))] [] s10))) ∧ (¬ y9 = 0 → tw_T G l o ad h d mX3_next (tw_qv G o ad h K) 67 [some (.ref o), some (.int x1), none, none] [] s8))) ∧ (y5 = (-1 : Int32) → tw_pt s7 6 (0 : Int32) (fun s17 => tw_pt s17 5 x1 (fun s18 => K s18)))))))) ∧ (y2 = (32 : Int32) → tw_T G l o ad h d mX3_next (tw_qv G o ad h K) 5 [some (.ref o), some (.int (x1 + (1 : Int32))), none, none] [] s1))) : tw_T G l o ad h d mX3_next (tw_qv G o ad h K) 5 [some (.ref o), some (.int x1), none, none] [] s := by
  refine wq_aload_n (pc := 5) dX3_next_5 rfl rfl ?_
  refine wq_iload_n (pc := 6) dX3_next_6 rfl rfl ?_
  refine tcq1851 (pc := 7) (As := [.int x1]) (st := []) rfl dX3_next_7 rfl (Nat.le_of_ble_eq_true rfl) V (tw_ki (fun y2 s1 V => ?_))
  refine wq_bipush (pc := 10) dX3_next_10 cstb32 ?_
  refine wq_icmp_ne (pc := 12) (tgt := 21) dX3_next_12 rfl (fun c => ?_) (fun c => ?_)
  · have V := V.1 c
    refine wq_aload_n (pc := 21) dX3_next_21 rfl rfl ?_
    refine wq_iload_n (pc := 22) dX3_next_22 rfl rfl ?_
    refine tp4 (pc := 23) rfl ok dX3_next_23 V (fun s3 V => ?_)
    refine wq_aload_n (pc := 26) dX3_next_26 rfl rfl ?_
    refine wq_iload_n (pc := 27) dX3_next_27 rfl rfl ?_
    refine tcq1851 (pc := 28) (As := [.int x1]) (st := []) rfl dX3_next_28 rfl (Nat.le_of_ble_eq_true rfl) V (tw_ki (fun y5 s4 V => ?_))
    refine wq_istore_n (L' := [some (.ref o), some (.int x1), some (.int y5), none]) (pc := 31) dX3_next_31 rfl (Nat.le_of_ble_eq_true rfl) rfl ?_
    refine wq_aload_n (pc := 32) dX3_next_32 rfl rfl ?_
    refine wq_iconst (pc := 33) dX3_next_33 csti0 ?_
    refine tp8 (pc := 34) rfl ok dX3_next_34 V (fun s6 V => ?_)
    refine wq_aload_n (pc := 37) dX3_next_37 rfl rfl ?_
    refine wq_iconst (pc := 38) dX3_next_38 csti0 ?_
    refine tp7 (pc := 39) rfl ok dX3_next_39 V (fun s7 V => ?_)
    refine wq_iload_n (pc := 42) dX3_next_42 rfl rfl ?_
    refine wq_iconst (pc := 43) dX3_next_43 cstim1 ?_
    refine wq_icmp_ne (pc := 44) (tgt := 60) dX3_next_44 rfl (fun c => ?_) (fun c => ?_)
    · have V := V.1 c
      refine wq_iload_n (pc := 60) dX3_next_60 rfl rfl ?_
      refine tcq1855 (pc := 61) (As := [.int y5]) (st := []) rfl dX3_next_61 rfl (Nat.le_of_ble_eq_true rfl) V (tw_ki (fun y9 s8 V => ?_))
      refine wq_if_eq (pc := 64) (tgt := 143) dX3_next_64 rfl (fun c => ?_) (fun c => ?_)
      · have V := V.1 c
        refine wq_iload_n (pc := 143) dX3_next_143 rfl rfl ?_
        refine tcq1858 (pc := 144) (As := [.int y5]) (st := []) rfl dX3_next_144 rfl (Nat.le_of_ble_eq_true rfl) V (tw_ki (fun y11 s10 V => ?_))
        refine wq_if_eq (pc := 147) (tgt := 219) dX3_next_147 rfl (fun c => ?_) (fun c => ?_)
        · have V := V.1 c
          refine wq_aload_n (pc := 219) dX3_next_219 rfl rfl ?_
          refine wq_iload_n (pc := 220) dX3_next_220 rfl rfl ?_
          refine wq_iconst (pc := 221) dX3_next_221 csti1 ?_
          refine wq_iadd (pc := 222) dX3_next_222 ?_
          refine tp5 (pc := 223) rfl ok dX3_next_223 V (fun s12 V => ?_)
          refine wq_aload_n (pc := 226) dX3_next_226 rfl rfl ?_
          refine wq_iload_n (pc := 227) dX3_next_227 rfl rfl ?_
          refine wq_bipush (pc := 228) dX3_next_228 cstb59 ?_
          refine wq_icmp_eq (pc := 230) (tgt := 245) dX3_next_230 rfl (fun c => ?_) (fun c => ?_)
          · have V := V.1 c
            refine wq_iload_n (pc := 245) dX3_next_245 rfl rfl ?_
            refine wq_goto (pc := 246) (tgt := 250) dX3_next_246 rfl ?_
            refine tp6 (pc := 250) rfl ok dX3_next_250 V (fun s13 V => ?_)
            refine wq_vret (pc := 253) dX3_next_253 rfl ⟨_, rfl, rfl, V⟩
          · have V := V.2 c
            refine wq_iload_n (pc := 233) dX3_next_233 rfl rfl ?_
            refine wq_bipush (pc := 234) dX3_next_234 cstb44 ?_
            refine wq_icmp_eq (pc := 236) (tgt := 245) dX3_next_236 rfl (fun c => ?_) (fun c => ?_)
            · have V := V.1 c
              refine wq_iload_n (pc := 245) dX3_next_245 rfl rfl ?_
              refine wq_goto (pc := 246) (tgt := 250) dX3_next_246 rfl ?_
              refine tp6 (pc := 250) rfl ok dX3_next_250 V (fun s14 V => ?_)
              refine wq_vret (pc := 253) dX3_next_253 rfl ⟨_, rfl, rfl, V⟩
            · have V := V.2 c
              refine wq_iload_n (pc := 239) dX3_next_239 rfl rfl ?_
              refine wq_bipush (pc := 240) dX3_next_240 cstb45 ?_
              refine wq_icmp_ne (pc := 242) (tgt := 249) dX3_next_242 rfl (fun c => ?_) (fun c => ?_)
              · have V := V.1 c
                refine wq_iconst (pc := 249) dX3_next_249 csti1 ?_
                refine tp6 (pc := 250) rfl ok dX3_next_250 V (fun s15 V => ?_)
                refine wq_vret (pc := 253) dX3_next_253 rfl ⟨_, rfl, rfl, V⟩
              · have V := V.2 c
                refine wq_iload_n (pc := 245) dX3_next_245 rfl rfl ?_
                refine wq_goto (pc := 246) (tgt := 250) dX3_next_246 rfl ?_
                refine tp6 (pc := 250) rfl ok dX3_next_250 V (fun s16 V => ?_)
                refine wq_vret (pc := 253) dX3_next_253 rfl ⟨_, rfl, rfl, V⟩
        · have V := V.2 c
          refine wq_iconst (pc := 150) dX3_next_150 csti0 ?_
          refine wq_istore_n (L' := [some (.ref o), some (.int x1), some (.int y5), some (.int (0 : Int32))]) (pc := 151) dX3_next_151 rfl (Nat.le_of_ble_eq_true rfl) rfl ?_
          exact wq_T.less V ⟨rfl, ⟨rfl, ⟨rfl, trivial⟩⟩⟩
      · have V := V.2 c
        exact wq_T.less V ⟨rfl, ⟨rfl, trivial⟩⟩
    · have V := V.2 c
      refine wq_aload_n (pc := 47) dX3_next_47 rfl rfl ?_
      refine wq_iconst (pc := 48) dX3_next_48 csti0 ?_
      refine tp6 (pc := 49) rfl ok dX3_next_49 V (fun s17 V => ?_)
      refine wq_aload_n (pc := 52) dX3_next_52 rfl rfl ?_
      refine wq_iload_n (pc := 53) dX3_next_53 rfl rfl ?_
      refine tp5 (pc := 54) rfl ok dX3_next_54 V (fun s18 V => ?_)
      refine wq_goto (pc := 57) (tgt := 253) dX3_next_57 rfl ?_
      refine wq_vret (pc := 253) dX3_next_253 rfl ⟨_, rfl, rfl, V⟩
  · have V := V.2 c
    refine wq_iinc (L' := [some (.ref o), some (.int (x1 + (1 : Int32))), none, none]) (pc := 15) dX3_next_15 rfl (by rw [csti1]) (Nat.le_of_ble_eq_true rfl) rfl ?_
    refine wq_goto (pc := 18) (tgt := 5) dX3_next_18 rfl ?_
    exact V
theorem vX3_next_67 {G : wq_G} {l : Launch} {o : Nat} {ad : Nat → Nat} {h : wq_H} {d : Nat} {K : tw_S → Prop} (ok : tw_ok G o ad)  {x1 : Int32} {s : tw_S} (V : tw_ci G l o ad h d mX3_see [.ref o, .int x1] s (fun y2 s1 => tw_ci G l o ad h d mX3_isSmall [.int y2] s1 (fun y4 s3 => (y4 = 0 → tw_pt s3 5 x1 (fun s5 => ((s5.1 8) ≤ (8 : Int32) → tw_pt s5 6 (2 : Int32) (fun s6 => K s6)) ∧ (¬ (s5.1 8) ≤ (8 : Int32) → tw_pt s5 6 (1 : Int32) (fun s7 => K s7)))) ∧ (¬ y4 = 0 → ((8 : Int32) ≤ (s3.1 8) → tw_pt s3 8 ((s3.1 8) + (1 : Int32)) (fun s8 => tw_T G l o ad h d mX3_next (tw_qv G o ad h K) 67 [some (.ref o), some (.int (x1 + (1 : Int32))), none, none] [] s8)) ∧ (¬ (8 : Int32) ≤ (s3.1 8) → tw_ci G l o ad h d mX3_see [.ref o, .int x1] s3 (fun y10 s9 => tw_st s9 12 (s3.1 8) y10 (fun s11 => tw_pt s11 8 ((s11.1 8) + (1 : Int32)) (fun s12 => tw_T G l o ad h d mX3_next (tw_qv G o ad h K) 67 [some (.ref o), some (.int (x1 + (1 : Int32))), none, none] [] s12)))))))) : tw_T G l o ad h d mX3_next (tw_qv G o ad h K) 67 [some (.ref o), some (.int x1), none, none] [] s := by
  refine wq_aload_n (pc := 67) dX3_next_67 rfl rfl ?_
  refine wq_iload_n (pc := 68) dX3_next_68 rfl rfl ?_
  refine tcq1851 (pc := 69) (As := [.int x1]) (st := []) rfl dX3_next_69 rfl (Nat.le_of_ble_eq_true rfl) V (tw_ki (fun y2 s1 V => ?_))
  refine tcq1855 (pc := 72) (As := [.int y2]) (st := []) rfl dX3_next_72 rfl (Nat.le_of_ble_eq_true rfl) V (tw_ki (fun y4 s3 V => ?_))
  refine wq_if_eq (pc := 75) (tgt := 117) dX3_next_75 rfl (fun c => ?_) (fun c => ?_)
  · have V := V.1 c
    refine wq_aload_n (pc := 117) dX3_next_117 rfl rfl ?_
    refine wq_iload_n (pc := 118) dX3_next_118 rfl rfl ?_
    refine tp5 (pc := 119) rfl ok dX3_next_119 V (fun s5 V => ?_)
    refine wq_aload_n (pc := 122) dX3_next_122 rfl rfl ?_
    refine wq_aload_n (pc := 123) dX3_next_123 rfl rfl ?_
    refine tg8 (pc := 124) rfl dX3_next_124 ?_
    refine wq_bipush (pc := 127) dX3_next_127 cstb8 ?_
    refine wq_icmp_le (pc := 129) (tgt := 136) dX3_next_129 rfl (fun c => ?_) (fun c => ?_)
    · have V := V.1 c
      refine wq_iconst (pc := 136) dX3_next_136 csti2 ?_
      refine tp6 (pc := 137) rfl ok dX3_next_137 V (fun s6 V => ?_)
      refine wq_goto (pc := 140) (tgt := 253) dX3_next_140 rfl ?_
      refine wq_vret (pc := 253) dX3_next_253 rfl ⟨_, rfl, rfl, V⟩
    · have V := V.2 c
      refine wq_iconst (pc := 132) dX3_next_132 csti1 ?_
      refine wq_goto (pc := 133) (tgt := 137) dX3_next_133 rfl ?_
      refine tp6 (pc := 137) rfl ok dX3_next_137 V (fun s7 V => ?_)
      refine wq_goto (pc := 140) (tgt := 253) dX3_next_140 rfl ?_
      refine wq_vret (pc := 253) dX3_next_253 rfl ⟨_, rfl, rfl, V⟩
  · have V := V.2 c
    refine wq_aload_n (pc := 78) dX3_next_78 rfl rfl ?_
    refine tg8 (pc := 79) rfl dX3_next_79 ?_
    refine wq_bipush (pc := 82) dX3_next_82 cstb8 ?_
    refine wq_icmp_ge (pc := 84) (tgt := 101) dX3_next_84 rfl (fun c => ?_) (fun c => ?_)
    · have V := V.1 c
      refine wq_aload_n (pc := 101) dX3_next_101 rfl rfl ?_
      refine wq_dup (pc := 102) dX3_next_102 rfl ?_
      refine tg8 (pc := 103) rfl dX3_next_103 ?_
      refine wq_iconst (pc := 106) dX3_next_106 csti1 ?_
      refine wq_iadd (pc := 107) dX3_next_107 ?_
      refine tp8 (pc := 108) rfl ok dX3_next_108 V (fun s8 V => ?_)
      refine wq_iinc (L' := [some (.ref o), some (.int (x1 + (1 : Int32))), none, none]) (pc := 111) dX3_next_111 rfl (by rw [csti1]) (Nat.le_of_ble_eq_true rfl) rfl ?_
      refine wq_goto (pc := 114) (tgt := 67) dX3_next_114 rfl ?_
      exact V
    · have V := V.2 c
      refine wq_aload_n (pc := 87) dX3_next_87 rfl rfl ?_
      refine tg12 (pc := 88) rfl dX3_next_88 ?_
      refine wq_aload_n (pc := 91) dX3_next_91 rfl rfl ?_
      refine tg8 (pc := 92) rfl dX3_next_92 ?_
      refine wq_aload_n (pc := 95) dX3_next_95 rfl rfl ?_
      refine wq_iload_n (pc := 96) dX3_next_96 rfl rfl ?_
      refine tcq1851 (pc := 97) (As := [.int x1]) (st := [.int (s3.1 8), .ref (ad 12)]) rfl dX3_next_97 rfl (Nat.le_of_ble_eq_true rfl) V (tw_ki (fun y10 s9 V => ?_))
      refine tw_iast' (pc := 100) ok mia12 dX3_next_100 V (fun s11 V => ?_)
      refine wq_aload_n (pc := 101) dX3_next_101 rfl rfl ?_
      refine wq_dup (pc := 102) dX3_next_102 rfl ?_
      refine tg8 (pc := 103) rfl dX3_next_103 ?_
      refine wq_iconst (pc := 106) dX3_next_106 csti1 ?_
      refine wq_iadd (pc := 107) dX3_next_107 ?_
      refine tp8 (pc := 108) rfl ok dX3_next_108 V (fun s12 V => ?_)
      refine wq_iinc (L' := [some (.ref o), some (.int (x1 + (1 : Int32))), none, none]) (pc := 111) dX3_next_111 rfl (by rw [csti1]) (Nat.le_of_ble_eq_true rfl) rfl ?_
      refine wq_goto (pc := 114) (tgt := 67) dX3_next_114 rfl ?_
      exact V
theorem vX3_next_152 {G : wq_G} {l : Launch} {o : Nat} {ad : Nat → Nat} {h : wq_H} {d : Nat} {K : tw_S → Prop} (ok : tw_ok G o ad)  {x1 : Int32} {x3 : Int32} {s : tw_S} (V : tw_ci G l o ad h d mX3_see [.ref o, .int x1] s (fun y2 s1 => tw_ci G l o ad h d mX3_isDigit [.int y2] s1 (fun y4 s3 => (y4 = 0 → tw_pt s3 5 x1 (fun s5 => (x3 ≤ (3 : Int32) → tw_pt s5 6 (3 : Int32) (fun s6 => K s6)) ∧ (¬ x3 ≤ (3 : Int32) → tw_pt s5 6 (1 : Int32) (fun s7 => K s7)))) ∧ (¬ y4 = 0 → ((3 : Int32) ≤ x3 → tw_T G l o ad h d mX3_next (tw_qv G o ad h K) 152 [some (.ref o), some (.int (x1 + (1 : Int32))), none, some (.int (x3 + (1 : Int32)))] [] s3) ∧ (¬ (3 : Int32) ≤ x3 → tw_ci G l o ad h d mX3_see [.ref o, .int x1] s3 (fun y9 s8 => tw_pt s8 7 ((((10 : Int32) * (s3.1 7)) + y9) - (48 : Int32)) (fun s10 => tw_T G l o ad h d mX3_next (tw_qv G o ad h K) 152 [some (.ref o), some (.int (x1 + (1 : Int32))), none, some (.int (x3 + (1 : Int32)))] [] s10))))))) : tw_T G l o ad h d mX3_next (tw_qv G o ad h K) 152 [some (.ref o), some (.int x1), none, some (.int x3)] [] s := by
  refine wq_aload_n (pc := 152) dX3_next_152 rfl rfl ?_
  refine wq_iload_n (pc := 153) dX3_next_153 rfl rfl ?_
  refine tcq1851 (pc := 154) (As := [.int x1]) (st := []) rfl dX3_next_154 rfl (Nat.le_of_ble_eq_true rfl) V (tw_ki (fun y2 s1 V => ?_))
  refine tcq1858 (pc := 157) (As := [.int y2]) (st := []) rfl dX3_next_157 rfl (Nat.le_of_ble_eq_true rfl) V (tw_ki (fun y4 s3 V => ?_))
  refine wq_if_eq (pc := 160) (tgt := 197) dX3_next_160 rfl (fun c => ?_) (fun c => ?_)
  · have V := V.1 c
    refine wq_aload_n (pc := 197) dX3_next_197 rfl rfl ?_
    refine wq_iload_n (pc := 198) dX3_next_198 rfl rfl ?_
    refine tp5 (pc := 199) rfl ok dX3_next_199 V (fun s5 V => ?_)
    refine wq_aload_n (pc := 202) dX3_next_202 rfl rfl ?_
    refine wq_iload_n (pc := 203) dX3_next_203 rfl rfl ?_
    refine wq_iconst (pc := 204) dX3_next_204 csti3 ?_
    refine wq_icmp_le (pc := 205) (tgt := 212) dX3_next_205 rfl (fun c => ?_) (fun c => ?_)
    · have V := V.1 c
      refine wq_iconst (pc := 212) dX3_next_212 csti3 ?_
      refine tp6 (pc := 213) rfl ok dX3_next_213 V (fun s6 V => ?_)
      refine wq_goto (pc := 216) (tgt := 253) dX3_next_216 rfl ?_
      refine wq_vret (pc := 253) dX3_next_253 rfl ⟨_, rfl, rfl, V⟩
    · have V := V.2 c
      refine wq_iconst (pc := 208) dX3_next_208 csti1 ?_
      refine wq_goto (pc := 209) (tgt := 213) dX3_next_209 rfl ?_
      refine tp6 (pc := 213) rfl ok dX3_next_213 V (fun s7 V => ?_)
      refine wq_goto (pc := 216) (tgt := 253) dX3_next_216 rfl ?_
      refine wq_vret (pc := 253) dX3_next_253 rfl ⟨_, rfl, rfl, V⟩
  · have V := V.2 c
    refine wq_iload_n (pc := 163) dX3_next_163 rfl rfl ?_
    refine wq_iconst (pc := 164) dX3_next_164 csti3 ?_
    refine wq_icmp_ge (pc := 165) (tgt := 188) dX3_next_165 rfl (fun c => ?_) (fun c => ?_)
    · have V := V.1 c
      refine wq_iinc (L' := [some (.ref o), some (.int x1), none, some (.int (x3 + (1 : Int32)))]) (pc := 188) dX3_next_188 rfl (by rw [csti1]) (Nat.le_of_ble_eq_true rfl) rfl ?_
      refine wq_iinc (L' := [some (.ref o), some (.int (x1 + (1 : Int32))), none, some (.int (x3 + (1 : Int32)))]) (pc := 191) dX3_next_191 rfl (by rw [csti1]) (Nat.le_of_ble_eq_true rfl) rfl ?_
      refine wq_goto (pc := 194) (tgt := 152) dX3_next_194 rfl ?_
      exact V
    · have V := V.2 c
      refine wq_aload_n (pc := 168) dX3_next_168 rfl rfl ?_
      refine wq_bipush (pc := 169) dX3_next_169 cstb10 ?_
      refine wq_aload_n (pc := 171) dX3_next_171 rfl rfl ?_
      refine tg7 (pc := 172) rfl dX3_next_172 ?_
      refine wq_imul (pc := 175) dX3_next_175 ?_
      refine wq_aload_n (pc := 176) dX3_next_176 rfl rfl ?_
      refine wq_iload_n (pc := 177) dX3_next_177 rfl rfl ?_
      refine tcq1851 (pc := 178) (As := [.int x1]) (st := [.int ((10 : Int32) * (s3.1 7)), .ref o]) rfl dX3_next_178 rfl (Nat.le_of_ble_eq_true rfl) V (tw_ki (fun y9 s8 V => ?_))
      refine wq_iadd (pc := 181) dX3_next_181 ?_
      refine wq_bipush (pc := 182) dX3_next_182 cstb48 ?_
      refine wq_isub (pc := 184) dX3_next_184 ?_
      refine tp7 (pc := 185) rfl ok dX3_next_185 V (fun s10 V => ?_)
      refine wq_iinc (L' := [some (.ref o), some (.int x1), none, some (.int (x3 + (1 : Int32)))]) (pc := 188) dX3_next_188 rfl (by rw [csti1]) (Nat.le_of_ble_eq_true rfl) rfl ?_
      refine wq_iinc (L' := [some (.ref o), some (.int (x1 + (1 : Int32))), none, some (.int (x3 + (1 : Int32)))]) (pc := 191) dX3_next_191 rfl (by rw [csti1]) (Nat.le_of_ble_eq_true rfl) rfl ?_
      refine wq_goto (pc := 194) (tgt := 152) dX3_next_194 rfl ?_
      exact V
theorem vX3_see_0 {G : wq_G} {l : Launch} {o : Nat} {ad : Nat → Nat} {h : wq_H} {d : Nat} {K : Int32 → tw_S → Prop} (ok : tw_ok G o ad)  {x1 : Int32} {s : tw_S} (V : ((s.1 3) ≤ x1 → K (-1 : Int32) s) ∧ (¬ (s.1 3) ≤ x1 → tw_ld s 1 x1 (fun y1 => K y1 s))) : tw_T G l o ad h d mX3_see (tw_qi G o ad h K) 0 [some (.ref o), some (.int x1)] [] s := by
  refine wq_iload_n (pc := 0) dX3_see_0 rfl rfl ?_
  refine wq_aload_n (pc := 1) dX3_see_1 rfl rfl ?_
  refine tg3 (pc := 2) rfl dX3_see_2 ?_
  refine wq_icmp_ge (pc := 5) (tgt := 17) dX3_see_5 rfl (fun c => ?_) (fun c => ?_)
  · have V := V.1 c
    refine wq_iconst (pc := 17) dX3_see_17 cstim1 ?_
    refine wq_iret (pc := 18) dX3_see_18 rfl ⟨_, _, rfl, rfl, V⟩
  · have V := V.2 c
    refine wq_aload_n (pc := 8) dX3_see_8 rfl rfl ?_
    refine tg1 (pc := 9) rfl dX3_see_9 ?_
    refine wq_iload_n (pc := 12) dX3_see_12 rfl rfl ?_
    refine tw_iald' (pc := 13) ok mia1 dX3_see_13 V (fun y1 V => ?_)
    refine wq_goto (pc := 14) (tgt := 18) dX3_see_14 rfl ?_
    refine wq_iret (pc := 18) dX3_see_18 rfl ⟨_, _, rfl, rfl, V⟩
theorem vX3_isSmall_0 {G : wq_G} {l : Launch} {o : Nat} {ad : Nat → Nat} {h : wq_H} {d : Nat} {K : Int32 → tw_S → Prop} (ok : tw_ok G o ad)  {x0 : Int32} {s : tw_S} (V : (x0 < (97 : Int32) → K (0 : Int32) s) ∧ (¬ x0 < (97 : Int32) → ((122 : Int32) < x0 → K (0 : Int32) s) ∧ (¬ (122 : Int32) < x0 → K (1 : Int32) s))) : tw_T G l o ad h d mX3_isSmall (tw_qi G o ad h K) 0 [some (.int x0)] [] s := by
  refine wq_iload_n (pc := 0) dX3_isSmall_0 rfl rfl ?_
  refine wq_bipush (pc := 1) dX3_isSmall_1 cstb97 ?_
  refine wq_icmp_lt (pc := 3) (tgt := 16) dX3_isSmall_3 rfl (fun c => ?_) (fun c => ?_)
  · have V := V.1 c
    refine wq_iconst (pc := 16) dX3_isSmall_16 csti0 ?_
    refine wq_zret (pc := 17) dX3_isSmall_17 rfl tw_nb0 ⟨_, _, rfl, rfl, V⟩
  · have V := V.2 c
    refine wq_iload_n (pc := 6) dX3_isSmall_6 rfl rfl ?_
    refine wq_bipush (pc := 7) dX3_isSmall_7 cstb122 ?_
    refine wq_icmp_gt (pc := 9) (tgt := 16) dX3_isSmall_9 rfl (fun c => ?_) (fun c => ?_)
    · have V := V.1 c
      refine wq_iconst (pc := 16) dX3_isSmall_16 csti0 ?_
      refine wq_zret (pc := 17) dX3_isSmall_17 rfl tw_nb0 ⟨_, _, rfl, rfl, V⟩
    · have V := V.2 c
      refine wq_iconst (pc := 12) dX3_isSmall_12 csti1 ?_
      refine wq_goto (pc := 13) (tgt := 17) dX3_isSmall_13 rfl ?_
      refine wq_zret (pc := 17) dX3_isSmall_17 rfl tw_nb1 ⟨_, _, rfl, rfl, V⟩
theorem vX3_isDigit_0 {G : wq_G} {l : Launch} {o : Nat} {ad : Nat → Nat} {h : wq_H} {d : Nat} {K : Int32 → tw_S → Prop} (ok : tw_ok G o ad)  {x0 : Int32} {s : tw_S} (V : (x0 < (48 : Int32) → K (0 : Int32) s) ∧ (¬ x0 < (48 : Int32) → ((57 : Int32) < x0 → K (0 : Int32) s) ∧ (¬ (57 : Int32) < x0 → K (1 : Int32) s))) : tw_T G l o ad h d mX3_isDigit (tw_qi G o ad h K) 0 [some (.int x0)] [] s := by
  refine wq_iload_n (pc := 0) dX3_isDigit_0 rfl rfl ?_
  refine wq_bipush (pc := 1) dX3_isDigit_1 cstb48 ?_
  refine wq_icmp_lt (pc := 3) (tgt := 16) dX3_isDigit_3 rfl (fun c => ?_) (fun c => ?_)
  · have V := V.1 c
    refine wq_iconst (pc := 16) dX3_isDigit_16 csti0 ?_
    refine wq_zret (pc := 17) dX3_isDigit_17 rfl tw_nb0 ⟨_, _, rfl, rfl, V⟩
  · have V := V.2 c
    refine wq_iload_n (pc := 6) dX3_isDigit_6 rfl rfl ?_
    refine wq_bipush (pc := 7) dX3_isDigit_7 cstb57 ?_
    refine wq_icmp_gt (pc := 9) (tgt := 16) dX3_isDigit_9 rfl (fun c => ?_) (fun c => ?_)
    · have V := V.1 c
      refine wq_iconst (pc := 16) dX3_isDigit_16 csti0 ?_
      refine wq_zret (pc := 17) dX3_isDigit_17 rfl tw_nb0 ⟨_, _, rfl, rfl, V⟩
    · have V := V.2 c
      refine wq_iconst (pc := 12) dX3_isDigit_12 csti1 ?_
      refine wq_goto (pc := 13) (tgt := 17) dX3_isDigit_13 rfl ?_
      refine wq_zret (pc := 17) dX3_isDigit_17 rfl tw_nb1 ⟨_, _, rfl, rfl, V⟩
theorem vX3_readLine_0 {G : wq_G} {l : Launch} {o : Nat} {ad : Nat → Nat} {h : wq_H} {d : Nat} {K : tw_S → Prop} (ok : tw_ok G o ad)   {s : tw_S} (V : tw_ld s 16 (49 : Int32) (fun y1 => (¬ y1 = 0 → tw_ci G l o ad h d mX3_begins [.ref o, .ref (G.2.2.2.2 13), .int (0 : Int32), .int (3 : Int32)] s (fun y3 s2 => (y3 = 0 → tw_ci G l o ad h d mX3_begins [.ref o, .ref (G.2.2.2.2 15), .int (1 : Int32), .int (1 : Int32)] s2 (fun y5 s4 => (y5 = 0 → tw_ci G l o ad h d mX3_begins [.ref o, .ref (G.2.2.2.2 18), .int (1 : Int32), .int (1 : Int32)] s4 (fun y7 s6 => (y7 = 0 → tw_ci G l o ad h d mX3_isWord [.ref o, .ref (G.2.2.2.2 21)] s6 (fun y9 s8 => (y9 = 0 → tw_ld s8 16 (52 : Int32) (fun y10 => ((8 : Int32) ≤ y10 → tw_T G l o ad h d mX3_readLine (tw_qv G o ad h K) 115 [some (.ref o)] [.int (0 : Int32), .ref (G.2.2.2.2 14), .ref o] s8) ∧ (¬ (8 : Int32) ≤ y10 → tw_T G l o ad h d mX3_readLine (tw_qv G o ad h K) 115 [some (.ref o)] [.int (1 : Int32), .ref (G.2.2.2.2 14), .ref o] s8))) ∧ (¬ y9 = 0 → tw_cv G l o ad h d mX3_setLine [.ref o] s8 (fun s11 => K s11)))) ∧ (¬ y7 = 0 → tw_cv G l o ad h d mX3_newNames [.ref o, .int (51 : Int32), .int (6 : Int32), .int (9 : Int32)] s6 (fun s12 => K s12)))) ∧ (¬ y5 = 0 → tw_cv G l o ad h d mX3_newNames [.ref o, .int (50 : Int32), .int (0 : Int32), .int (6 : Int32)] s4 (fun s13 => K s13)))) ∧ (¬ y3 = 0 → tw_cv G l o ad h d mX3_lawLine [.ref o] s2 (fun s14 => K s14)))) ∧ (y1 = 0 → tw_ci G l o ad h d mX3_begins [.ref o, .ref (G.2.2.2.2 13), .int (1 : Int32), .int (3 : Int32)] s (fun y16 s15 => (y16 = 0 → tw_ci G l o ad h d mX3_begins [.ref o, .ref (G.2.2.2.2 15), .int (1 : Int32), .int (1 : Int32)] s15 (fun y18 s17 => (y18 = 0 → tw_ci G l o ad h d mX3_begins [.ref o, .ref (G.2.2.2.2 18), .int (1 : Int32), .int (1 : Int32)] s17 (fun y20 s19 => (y20 = 0 → tw_ci G l o ad h d mX3_isWord [.ref o, .ref (G.2.2.2.2 21)] s19 (fun y22 s21 => (y22 = 0 → tw_ld s21 16 (52 : Int32) (fun y23 => ((8 : Int32) ≤ y23 → tw_T G l o ad h d mX3_readLine (tw_qv G o ad h K) 115 [some (.ref o)] [.int (0 : Int32), .ref (G.2.2.2.2 14), .ref o] s21) ∧ (¬ (8 : Int32) ≤ y23 → tw_T G l o ad h d mX3_readLine (tw_qv G o ad h K) 115 [some (.ref o)] [.int (1 : Int32), .ref (G.2.2.2.2 14), .ref o] s21))) ∧ (¬ y22 = 0 → tw_cv G l o ad h d mX3_setLine [.ref o] s21 (fun s24 => K s24)))) ∧ (¬ y20 = 0 → tw_cv G l o ad h d mX3_newNames [.ref o, .int (51 : Int32), .int (6 : Int32), .int (9 : Int32)] s19 (fun s25 => K s25)))) ∧ (¬ y18 = 0 → tw_cv G l o ad h d mX3_newNames [.ref o, .int (50 : Int32), .int (0 : Int32), .int (6 : Int32)] s17 (fun s26 => K s26)))) ∧ (¬ y16 = 0 → tw_cv G l o ad h d mX3_lawLine [.ref o] s15 (fun s27 => K s27)))))) : tw_T G l o ad h d mX3_readLine (tw_qv G o ad h K) 0 [some (.ref o)] [] s := by
  refine wq_aload_n (pc := 0) dX3_readLine_0 rfl rfl ?_
  refine wq_ldcS (a := G.2.2.2.2 13) (pc := 1) (mstr_X3_138 G) dX3_readLine_1 ?_
  refine wq_aload_n (pc := 3) dX3_readLine_3 rfl rfl ?_
  refine tg16 (pc := 4) rfl dX3_readLine_4 ?_
  refine wq_bipush (pc := 7) dX3_readLine_7 cstb49 ?_
  refine tw_iald' (pc := 9) ok mia16 dX3_readLine_9 V (fun y1 V => ?_)
  refine wq_if_ne (pc := 10) (tgt := 17) dX3_readLine_10 rfl (fun c => ?_) (fun c => ?_)
  · have V := V.1 c
    refine wq_iconst (pc := 17) dX3_readLine_17 csti0 ?_
    refine wq_iconst (pc := 18) dX3_readLine_18 csti3 ?_
    refine tcq1866 (pc := 19) (As := [.ref (G.2.2.2.2 13), .int (0 : Int32), .int (3 : Int32)]) (st := []) rfl dX3_readLine_19 rfl (Nat.le_of_ble_eq_true rfl) V (tw_ki (fun y3 s2 V => ?_))
    refine wq_if_eq (pc := 22) (tgt := 32) dX3_readLine_22 rfl (fun c => ?_) (fun c => ?_)
    · have V := V.1 c
      refine wq_aload_n (pc := 32) dX3_readLine_32 rfl rfl ?_
      refine wq_ldcS (a := G.2.2.2.2 15) (pc := 33) (mstr_X3_140 G) dX3_readLine_33 ?_
      refine wq_iconst (pc := 35) dX3_readLine_35 csti1 ?_
      refine wq_iconst (pc := 36) dX3_readLine_36 csti1 ?_
      refine tcq1866 (pc := 37) (As := [.ref (G.2.2.2.2 15), .int (1 : Int32), .int (1 : Int32)]) (st := []) rfl dX3_readLine_37 rfl (Nat.le_of_ble_eq_true rfl) V (tw_ki (fun y5 s4 V => ?_))
      refine wq_if_eq (pc := 40) (tgt := 55) dX3_readLine_40 rfl (fun c => ?_) (fun c => ?_)
      · have V := V.1 c
        refine wq_aload_n (pc := 55) dX3_readLine_55 rfl rfl ?_
        refine wq_ldcS (a := G.2.2.2.2 18) (pc := 56) (mstr_X3_142 G) dX3_readLine_56 ?_
        refine wq_iconst (pc := 58) dX3_readLine_58 csti1 ?_
        refine wq_iconst (pc := 59) dX3_readLine_59 csti1 ?_
        refine tcq1866 (pc := 60) (As := [.ref (G.2.2.2.2 18), .int (1 : Int32), .int (1 : Int32)]) (st := []) rfl dX3_readLine_60 rfl (Nat.le_of_ble_eq_true rfl) V (tw_ki (fun y7 s6 V => ?_))
        refine wq_if_eq (pc := 63) (tgt := 79) dX3_readLine_63 rfl (fun c => ?_) (fun c => ?_)
        · have V := V.1 c
          refine wq_aload_n (pc := 79) dX3_readLine_79 rfl rfl ?_
          refine wq_ldcS (a := G.2.2.2.2 21) (pc := 80) (mstr_X3_144 G) dX3_readLine_80 ?_
          refine tcq1870 (pc := 82) (As := [.ref (G.2.2.2.2 21)]) (st := []) rfl dX3_readLine_82 rfl (Nat.le_of_ble_eq_true rfl) V (tw_ki (fun y9 s8 V => ?_))
          refine wq_if_eq (pc := 85) (tgt := 95) dX3_readLine_85 rfl (fun c => ?_) (fun c => ?_)
          · have V := V.1 c
            refine wq_aload_n (pc := 95) dX3_readLine_95 rfl rfl ?_
            refine wq_ldcS (a := G.2.2.2.2 14) (pc := 96) (mstr_X3_146 G) dX3_readLine_96 ?_
            refine wq_aload_n (pc := 98) dX3_readLine_98 rfl rfl ?_
            refine tg16 (pc := 99) rfl dX3_readLine_99 ?_
            refine wq_bipush (pc := 102) dX3_readLine_102 cstb52 ?_
            refine tw_iald' (pc := 104) ok mia16 dX3_readLine_104 V (fun y10 V => ?_)
            refine wq_bipush (pc := 105) dX3_readLine_105 cstb8 ?_
            refine wq_icmp_ge (pc := 107) (tgt := 114) dX3_readLine_107 rfl (fun c => ?_) (fun c => ?_)
            · have V := V.1 c
              refine wq_iconst (pc := 114) dX3_readLine_114 csti0 ?_
              exact V
            · have V := V.2 c
              refine wq_iconst (pc := 110) dX3_readLine_110 csti1 ?_
              refine wq_goto (pc := 111) (tgt := 115) dX3_readLine_111 rfl ?_
              exact V
          · have V := V.2 c
            refine wq_aload_n (pc := 88) dX3_readLine_88 rfl rfl ?_
            refine tcq1936 (pc := 89) (As := []) (st := []) rfl dX3_readLine_89 rfl (Nat.le_of_ble_eq_true rfl) V (tw_kv (fun s11 V => ?_))
            refine wq_goto (pc := 92) (tgt := 206) dX3_readLine_92 rfl ?_
            refine wq_vret (pc := 206) dX3_readLine_206 rfl ⟨_, rfl, rfl, V⟩
        · have V := V.2 c
          refine wq_aload_n (pc := 66) dX3_readLine_66 rfl rfl ?_
          refine wq_bipush (pc := 67) dX3_readLine_67 cstb51 ?_
          refine wq_bipush (pc := 69) dX3_readLine_69 cstb6 ?_
          refine wq_bipush (pc := 71) dX3_readLine_71 cstb9 ?_
          refine tcq1915 (pc := 73) (As := [.int (51 : Int32), .int (6 : Int32), .int (9 : Int32)]) (st := []) rfl dX3_readLine_73 rfl (Nat.le_of_ble_eq_true rfl) V (tw_kv (fun s12 V => ?_))
          refine wq_goto (pc := 76) (tgt := 206) dX3_readLine_76 rfl ?_
          refine wq_vret (pc := 206) dX3_readLine_206 rfl ⟨_, rfl, rfl, V⟩
      · have V := V.2 c
        refine wq_aload_n (pc := 43) dX3_readLine_43 rfl rfl ?_
        refine wq_bipush (pc := 44) dX3_readLine_44 cstb50 ?_
        refine wq_iconst (pc := 46) dX3_readLine_46 csti0 ?_
        refine wq_bipush (pc := 47) dX3_readLine_47 cstb6 ?_
        refine tcq1915 (pc := 49) (As := [.int (50 : Int32), .int (0 : Int32), .int (6 : Int32)]) (st := []) rfl dX3_readLine_49 rfl (Nat.le_of_ble_eq_true rfl) V (tw_kv (fun s13 V => ?_))
        refine wq_goto (pc := 52) (tgt := 206) dX3_readLine_52 rfl ?_
        refine wq_vret (pc := 206) dX3_readLine_206 rfl ⟨_, rfl, rfl, V⟩
    · have V := V.2 c
      refine wq_aload_n (pc := 25) dX3_readLine_25 rfl rfl ?_
      refine tcq1897 (pc := 26) (As := []) (st := []) rfl dX3_readLine_26 rfl (Nat.le_of_ble_eq_true rfl) V (tw_kv (fun s14 V => ?_))
      refine wq_goto (pc := 29) (tgt := 206) dX3_readLine_29 rfl ?_
      refine wq_vret (pc := 206) dX3_readLine_206 rfl ⟨_, rfl, rfl, V⟩
  · have V := V.2 c
    refine wq_iconst (pc := 13) dX3_readLine_13 csti1 ?_
    refine wq_goto (pc := 14) (tgt := 18) dX3_readLine_14 rfl ?_
    refine wq_iconst (pc := 18) dX3_readLine_18 csti3 ?_
    refine tcq1866 (pc := 19) (As := [.ref (G.2.2.2.2 13), .int (1 : Int32), .int (3 : Int32)]) (st := []) rfl dX3_readLine_19 rfl (Nat.le_of_ble_eq_true rfl) V (tw_ki (fun y16 s15 V => ?_))
    refine wq_if_eq (pc := 22) (tgt := 32) dX3_readLine_22 rfl (fun c => ?_) (fun c => ?_)
    · have V := V.1 c
      refine wq_aload_n (pc := 32) dX3_readLine_32 rfl rfl ?_
      refine wq_ldcS (a := G.2.2.2.2 15) (pc := 33) (mstr_X3_140 G) dX3_readLine_33 ?_
      refine wq_iconst (pc := 35) dX3_readLine_35 csti1 ?_
      refine wq_iconst (pc := 36) dX3_readLine_36 csti1 ?_
      refine tcq1866 (pc := 37) (As := [.ref (G.2.2.2.2 15), .int (1 : Int32), .int (1 : Int32)]) (st := []) rfl dX3_readLine_37 rfl (Nat.le_of_ble_eq_true rfl) V (tw_ki (fun y18 s17 V => ?_))
      refine wq_if_eq (pc := 40) (tgt := 55) dX3_readLine_40 rfl (fun c => ?_) (fun c => ?_)
      · have V := V.1 c
        refine wq_aload_n (pc := 55) dX3_readLine_55 rfl rfl ?_
        refine wq_ldcS (a := G.2.2.2.2 18) (pc := 56) (mstr_X3_142 G) dX3_readLine_56 ?_
        refine wq_iconst (pc := 58) dX3_readLine_58 csti1 ?_
        refine wq_iconst (pc := 59) dX3_readLine_59 csti1 ?_
        refine tcq1866 (pc := 60) (As := [.ref (G.2.2.2.2 18), .int (1 : Int32), .int (1 : Int32)]) (st := []) rfl dX3_readLine_60 rfl (Nat.le_of_ble_eq_true rfl) V (tw_ki (fun y20 s19 V => ?_))
        refine wq_if_eq (pc := 63) (tgt := 79) dX3_readLine_63 rfl (fun c => ?_) (fun c => ?_)
        · have V := V.1 c
          refine wq_aload_n (pc := 79) dX3_readLine_79 rfl rfl ?_
          refine wq_ldcS (a := G.2.2.2.2 21) (pc := 80) (mstr_X3_144 G) dX3_readLine_80 ?_
          refine tcq1870 (pc := 82) (As := [.ref (G.2.2.2.2 21)]) (st := []) rfl dX3_readLine_82 rfl (Nat.le_of_ble_eq_true rfl) V (tw_ki (fun y22 s21 V => ?_))
          refine wq_if_eq (pc := 85) (tgt := 95) dX3_readLine_85 rfl (fun c => ?_) (fun c => ?_)
          · have V := V.1 c
            refine wq_aload_n (pc := 95) dX3_readLine_95 rfl rfl ?_
            refine wq_ldcS (a := G.2.2.2.2 14) (pc := 96) (mstr_X3_146 G) dX3_readLine_96 ?_
            refine wq_aload_n (pc := 98) dX3_readLine_98 rfl rfl ?_
            refine tg16 (pc := 99) rfl dX3_readLine_99 ?_
            refine wq_bipush (pc := 102) dX3_readLine_102 cstb52 ?_
            refine tw_iald' (pc := 104) ok mia16 dX3_readLine_104 V (fun y23 V => ?_)
            refine wq_bipush (pc := 105) dX3_readLine_105 cstb8 ?_
            refine wq_icmp_ge (pc := 107) (tgt := 114) dX3_readLine_107 rfl (fun c => ?_) (fun c => ?_)
            · have V := V.1 c
              refine wq_iconst (pc := 114) dX3_readLine_114 csti0 ?_
              exact V
            · have V := V.2 c
              refine wq_iconst (pc := 110) dX3_readLine_110 csti1 ?_
              refine wq_goto (pc := 111) (tgt := 115) dX3_readLine_111 rfl ?_
              exact V
          · have V := V.2 c
            refine wq_aload_n (pc := 88) dX3_readLine_88 rfl rfl ?_
            refine tcq1936 (pc := 89) (As := []) (st := []) rfl dX3_readLine_89 rfl (Nat.le_of_ble_eq_true rfl) V (tw_kv (fun s24 V => ?_))
            refine wq_goto (pc := 92) (tgt := 206) dX3_readLine_92 rfl ?_
            refine wq_vret (pc := 206) dX3_readLine_206 rfl ⟨_, rfl, rfl, V⟩
        · have V := V.2 c
          refine wq_aload_n (pc := 66) dX3_readLine_66 rfl rfl ?_
          refine wq_bipush (pc := 67) dX3_readLine_67 cstb51 ?_
          refine wq_bipush (pc := 69) dX3_readLine_69 cstb6 ?_
          refine wq_bipush (pc := 71) dX3_readLine_71 cstb9 ?_
          refine tcq1915 (pc := 73) (As := [.int (51 : Int32), .int (6 : Int32), .int (9 : Int32)]) (st := []) rfl dX3_readLine_73 rfl (Nat.le_of_ble_eq_true rfl) V (tw_kv (fun s25 V => ?_))
          refine wq_goto (pc := 76) (tgt := 206) dX3_readLine_76 rfl ?_
          refine wq_vret (pc := 206) dX3_readLine_206 rfl ⟨_, rfl, rfl, V⟩
      · have V := V.2 c
        refine wq_aload_n (pc := 43) dX3_readLine_43 rfl rfl ?_
        refine wq_bipush (pc := 44) dX3_readLine_44 cstb50 ?_
        refine wq_iconst (pc := 46) dX3_readLine_46 csti0 ?_
        refine wq_bipush (pc := 47) dX3_readLine_47 cstb6 ?_
        refine tcq1915 (pc := 49) (As := [.int (50 : Int32), .int (0 : Int32), .int (6 : Int32)]) (st := []) rfl dX3_readLine_49 rfl (Nat.le_of_ble_eq_true rfl) V (tw_kv (fun s26 V => ?_))
        refine wq_goto (pc := 52) (tgt := 206) dX3_readLine_52 rfl ?_
        refine wq_vret (pc := 206) dX3_readLine_206 rfl ⟨_, rfl, rfl, V⟩
    · have V := V.2 c
      refine wq_aload_n (pc := 25) dX3_readLine_25 rfl rfl ?_
      refine tcq1897 (pc := 26) (As := []) (st := []) rfl dX3_readLine_26 rfl (Nat.le_of_ble_eq_true rfl) V (tw_kv (fun s27 V => ?_))
      refine wq_goto (pc := 29) (tgt := 206) dX3_readLine_29 rfl ?_
      refine wq_vret (pc := 206) dX3_readLine_206 rfl ⟨_, rfl, rfl, V⟩
theorem vX3_readLine_115 {G : wq_G} {l : Launch} {o : Nat} {ad : Nat → Nat} {h : wq_H} {d : Nat} {K : tw_S → Prop} (ok : tw_ok G o ad)  {z0 : Int32} {z1 : Nat} {s : tw_S} (V : tw_ci G l o ad h d mX3_begins [.ref o, .ref z1, .int z0, .int (5 : Int32)] s (fun y2 s1 => (y2 = 0 → tw_ld s1 16 (85 : Int32) (fun y3 => ((18 : Int32) ≤ y3 → tw_ci G l o ad h d mX3_begins [.ref o, .ref (G.2.2.2.2 19), .int (0 : Int32), .int (5 : Int32)] s1 (fun y5 s4 => (y5 = 0 → tw_ld s4 16 (158 : Int32) (fun y6 => ((4 : Int32) ≤ y6 → tw_ci G l o ad h d mX3_begins [.ref o, .ref (G.2.2.2.2 20), .int (0 : Int32), .int (5 : Int32)] s4 (fun y8 s7 => (y8 = 0 → tw_cv G l o ad h d mX3_wrong [.ref o, .int (1 : Int32), .int (s7.1 4)] s7 (fun s9 => K s9)) ∧ (¬ y8 = 0 → tw_cv G l o ad h d mX3_runLine [.ref o] s7 (fun s10 => K s10)))) ∧ (¬ (4 : Int32) ≤ y6 → tw_ci G l o ad h d mX3_begins [.ref o, .ref (G.2.2.2.2 20), .int (1 : Int32), .int (5 : Int32)] s4 (fun y12 s11 => (y12 = 0 → tw_cv G l o ad h d mX3_wrong [.ref o, .int (1 : Int32), .int (s11.1 4)] s11 (fun s13 => K s13)) ∧ (¬ y12 = 0 → tw_cv G l o ad h d mX3_runLine [.ref o] s11 (fun s14 => K s14)))))) ∧ (¬ y5 = 0 → tw_cv G l o ad h d mX3_rayLine [.ref o] s4 (fun s15 => K s15)))) ∧ (¬ (18 : Int32) ≤ y3 → tw_ci G l o ad h d mX3_begins [.ref o, .ref (G.2.2.2.2 19), .int (1 : Int32), .int (5 : Int32)] s1 (fun y17 s16 => (y17 = 0 → tw_ld s16 16 (158 : Int32) (fun y18 => ((4 : Int32) ≤ y18 → tw_ci G l o ad h d mX3_begins [.ref o, .ref (G.2.2.2.2 20), .int (0 : Int32), .int (5 : Int32)] s16 (fun y20 s19 => (y20 = 0 → tw_cv G l o ad h d mX3_wrong [.ref o, .int (1 : Int32), .int (s19.1 4)] s19 (fun s21 => K s21)) ∧ (¬ y20 = 0 → tw_cv G l o ad h d mX3_runLine [.ref o] s19 (fun s22 => K s22)))) ∧ (¬ (4 : Int32) ≤ y18 → tw_ci G l o ad h d mX3_begins [.ref o, .ref (G.2.2.2.2 20), .int (1 : Int32), .int (5 : Int32)] s16 (fun y24 s23 => (y24 = 0 → tw_cv G l o ad h d mX3_wrong [.ref o, .int (1 : Int32), .int (s23.1 4)] s23 (fun s25 => K s25)) ∧ (¬ y24 = 0 → tw_cv G l o ad h d mX3_runLine [.ref o] s23 (fun s26 => K s26)))))) ∧ (¬ y17 = 0 → tw_cv G l o ad h d mX3_rayLine [.ref o] s16 (fun s27 => K s27)))))) ∧ (¬ y2 = 0 → tw_cv G l o ad h d mX3_lineLine [.ref o] s1 (fun s28 => K s28)))) : tw_T G l o ad h d mX3_readLine (tw_qv G o ad h K) 115 [some (.ref o)] [.int z0, .ref z1, .ref o] s := by
  refine wq_iconst (pc := 115) dX3_readLine_115 csti5 ?_
  refine tcq1866 (pc := 116) (As := [.ref z1, .int z0, .int (5 : Int32)]) (st := []) rfl dX3_readLine_116 rfl (Nat.le_of_ble_eq_true rfl) V (tw_ki (fun y2 s1 V => ?_))
  refine wq_if_eq (pc := 119) (tgt := 129) dX3_readLine_119 rfl (fun c => ?_) (fun c => ?_)
  · have V := V.1 c
    refine wq_aload_n (pc := 129) dX3_readLine_129 rfl rfl ?_
    refine wq_ldcS (a := G.2.2.2.2 19) (pc := 130) (mstr_X3_148 G) dX3_readLine_130 ?_
    refine wq_aload_n (pc := 132) dX3_readLine_132 rfl rfl ?_
    refine tg16 (pc := 133) rfl dX3_readLine_133 ?_
    refine wq_bipush (pc := 136) dX3_readLine_136 cstb85 ?_
    refine tw_iald' (pc := 138) ok mia16 dX3_readLine_138 V (fun y3 V => ?_)
    refine wq_bipush (pc := 139) dX3_readLine_139 cstb18 ?_
    refine wq_icmp_ge (pc := 141) (tgt := 148) dX3_readLine_141 rfl (fun c => ?_) (fun c => ?_)
    · have V := V.1 c
      refine wq_iconst (pc := 148) dX3_readLine_148 csti0 ?_
      refine wq_iconst (pc := 149) dX3_readLine_149 csti5 ?_
      refine tcq1866 (pc := 150) (As := [.ref (G.2.2.2.2 19), .int (0 : Int32), .int (5 : Int32)]) (st := []) rfl dX3_readLine_150 rfl (Nat.le_of_ble_eq_true rfl) V (tw_ki (fun y5 s4 V => ?_))
      refine wq_if_eq (pc := 153) (tgt := 163) dX3_readLine_153 rfl (fun c => ?_) (fun c => ?_)
      · have V := V.1 c
        refine wq_aload_n (pc := 163) dX3_readLine_163 rfl rfl ?_
        refine wq_ldcS (a := G.2.2.2.2 20) (pc := 164) (mstr_X3_150 G) dX3_readLine_164 ?_
        refine wq_aload_n (pc := 166) dX3_readLine_166 rfl rfl ?_
        refine tg16 (pc := 167) rfl dX3_readLine_167 ?_
        refine wq_sipush (pc := 170) dX3_readLine_170 csts158 ?_
        refine tw_iald' (pc := 173) ok mia16 dX3_readLine_173 V (fun y6 V => ?_)
        refine wq_iconst (pc := 174) dX3_readLine_174 csti4 ?_
        refine wq_icmp_ge (pc := 175) (tgt := 182) dX3_readLine_175 rfl (fun c => ?_) (fun c => ?_)
        · have V := V.1 c
          refine wq_iconst (pc := 182) dX3_readLine_182 csti0 ?_
          refine wq_iconst (pc := 183) dX3_readLine_183 csti5 ?_
          refine tcq1866 (pc := 184) (As := [.ref (G.2.2.2.2 20), .int (0 : Int32), .int (5 : Int32)]) (st := []) rfl dX3_readLine_184 rfl (Nat.le_of_ble_eq_true rfl) V (tw_ki (fun y8 s7 V => ?_))
          refine wq_if_eq (pc := 187) (tgt := 197) dX3_readLine_187 rfl (fun c => ?_) (fun c => ?_)
          · have V := V.1 c
            refine wq_aload_n (pc := 197) dX3_readLine_197 rfl rfl ?_
            refine wq_iconst (pc := 198) dX3_readLine_198 csti1 ?_
            refine wq_aload_n (pc := 199) dX3_readLine_199 rfl rfl ?_
            refine tg4 (pc := 200) rfl dX3_readLine_200 ?_
            refine tcq1893 (pc := 203) (As := [.int (1 : Int32), .int (s7.1 4)]) (st := []) rfl dX3_readLine_203 rfl (Nat.le_of_ble_eq_true rfl) V (tw_kv (fun s9 V => ?_))
            refine wq_vret (pc := 206) dX3_readLine_206 rfl ⟨_, rfl, rfl, V⟩
          · have V := V.2 c
            refine wq_aload_n (pc := 190) dX3_readLine_190 rfl rfl ?_
            refine tcq1967 (pc := 191) (As := []) (st := []) rfl dX3_readLine_191 rfl (Nat.le_of_ble_eq_true rfl) V (tw_kv (fun s10 V => ?_))
            refine wq_goto (pc := 194) (tgt := 206) dX3_readLine_194 rfl ?_
            refine wq_vret (pc := 206) dX3_readLine_206 rfl ⟨_, rfl, rfl, V⟩
        · have V := V.2 c
          refine wq_iconst (pc := 178) dX3_readLine_178 csti1 ?_
          refine wq_goto (pc := 179) (tgt := 183) dX3_readLine_179 rfl ?_
          refine wq_iconst (pc := 183) dX3_readLine_183 csti5 ?_
          refine tcq1866 (pc := 184) (As := [.ref (G.2.2.2.2 20), .int (1 : Int32), .int (5 : Int32)]) (st := []) rfl dX3_readLine_184 rfl (Nat.le_of_ble_eq_true rfl) V (tw_ki (fun y12 s11 V => ?_))
          refine wq_if_eq (pc := 187) (tgt := 197) dX3_readLine_187 rfl (fun c => ?_) (fun c => ?_)
          · have V := V.1 c
            refine wq_aload_n (pc := 197) dX3_readLine_197 rfl rfl ?_
            refine wq_iconst (pc := 198) dX3_readLine_198 csti1 ?_
            refine wq_aload_n (pc := 199) dX3_readLine_199 rfl rfl ?_
            refine tg4 (pc := 200) rfl dX3_readLine_200 ?_
            refine tcq1893 (pc := 203) (As := [.int (1 : Int32), .int (s11.1 4)]) (st := []) rfl dX3_readLine_203 rfl (Nat.le_of_ble_eq_true rfl) V (tw_kv (fun s13 V => ?_))
            refine wq_vret (pc := 206) dX3_readLine_206 rfl ⟨_, rfl, rfl, V⟩
          · have V := V.2 c
            refine wq_aload_n (pc := 190) dX3_readLine_190 rfl rfl ?_
            refine tcq1967 (pc := 191) (As := []) (st := []) rfl dX3_readLine_191 rfl (Nat.le_of_ble_eq_true rfl) V (tw_kv (fun s14 V => ?_))
            refine wq_goto (pc := 194) (tgt := 206) dX3_readLine_194 rfl ?_
            refine wq_vret (pc := 206) dX3_readLine_206 rfl ⟨_, rfl, rfl, V⟩
      · have V := V.2 c
        refine wq_aload_n (pc := 156) dX3_readLine_156 rfl rfl ?_
        refine tcq1963 (pc := 157) (As := []) (st := []) rfl dX3_readLine_157 rfl (Nat.le_of_ble_eq_true rfl) V (tw_kv (fun s15 V => ?_))
        refine wq_goto (pc := 160) (tgt := 206) dX3_readLine_160 rfl ?_
        refine wq_vret (pc := 206) dX3_readLine_206 rfl ⟨_, rfl, rfl, V⟩
    · have V := V.2 c
      refine wq_iconst (pc := 144) dX3_readLine_144 csti1 ?_
      refine wq_goto (pc := 145) (tgt := 149) dX3_readLine_145 rfl ?_
      refine wq_iconst (pc := 149) dX3_readLine_149 csti5 ?_
      refine tcq1866 (pc := 150) (As := [.ref (G.2.2.2.2 19), .int (1 : Int32), .int (5 : Int32)]) (st := []) rfl dX3_readLine_150 rfl (Nat.le_of_ble_eq_true rfl) V (tw_ki (fun y17 s16 V => ?_))
      refine wq_if_eq (pc := 153) (tgt := 163) dX3_readLine_153 rfl (fun c => ?_) (fun c => ?_)
      · have V := V.1 c
        refine wq_aload_n (pc := 163) dX3_readLine_163 rfl rfl ?_
        refine wq_ldcS (a := G.2.2.2.2 20) (pc := 164) (mstr_X3_150 G) dX3_readLine_164 ?_
        refine wq_aload_n (pc := 166) dX3_readLine_166 rfl rfl ?_
        refine tg16 (pc := 167) rfl dX3_readLine_167 ?_
        refine wq_sipush (pc := 170) dX3_readLine_170 csts158 ?_
        refine tw_iald' (pc := 173) ok mia16 dX3_readLine_173 V (fun y18 V => ?_)
        refine wq_iconst (pc := 174) dX3_readLine_174 csti4 ?_
        refine wq_icmp_ge (pc := 175) (tgt := 182) dX3_readLine_175 rfl (fun c => ?_) (fun c => ?_)
        · have V := V.1 c
          refine wq_iconst (pc := 182) dX3_readLine_182 csti0 ?_
          refine wq_iconst (pc := 183) dX3_readLine_183 csti5 ?_
          refine tcq1866 (pc := 184) (As := [.ref (G.2.2.2.2 20), .int (0 : Int32), .int (5 : Int32)]) (st := []) rfl dX3_readLine_184 rfl (Nat.le_of_ble_eq_true rfl) V (tw_ki (fun y20 s19 V => ?_))
          refine wq_if_eq (pc := 187) (tgt := 197) dX3_readLine_187 rfl (fun c => ?_) (fun c => ?_)
          · have V := V.1 c
            refine wq_aload_n (pc := 197) dX3_readLine_197 rfl rfl ?_
            refine wq_iconst (pc := 198) dX3_readLine_198 csti1 ?_
            refine wq_aload_n (pc := 199) dX3_readLine_199 rfl rfl ?_
            refine tg4 (pc := 200) rfl dX3_readLine_200 ?_
            refine tcq1893 (pc := 203) (As := [.int (1 : Int32), .int (s19.1 4)]) (st := []) rfl dX3_readLine_203 rfl (Nat.le_of_ble_eq_true rfl) V (tw_kv (fun s21 V => ?_))
            refine wq_vret (pc := 206) dX3_readLine_206 rfl ⟨_, rfl, rfl, V⟩
          · have V := V.2 c
            refine wq_aload_n (pc := 190) dX3_readLine_190 rfl rfl ?_
            refine tcq1967 (pc := 191) (As := []) (st := []) rfl dX3_readLine_191 rfl (Nat.le_of_ble_eq_true rfl) V (tw_kv (fun s22 V => ?_))
            refine wq_goto (pc := 194) (tgt := 206) dX3_readLine_194 rfl ?_
            refine wq_vret (pc := 206) dX3_readLine_206 rfl ⟨_, rfl, rfl, V⟩
        · have V := V.2 c
          refine wq_iconst (pc := 178) dX3_readLine_178 csti1 ?_
          refine wq_goto (pc := 179) (tgt := 183) dX3_readLine_179 rfl ?_
          refine wq_iconst (pc := 183) dX3_readLine_183 csti5 ?_
          refine tcq1866 (pc := 184) (As := [.ref (G.2.2.2.2 20), .int (1 : Int32), .int (5 : Int32)]) (st := []) rfl dX3_readLine_184 rfl (Nat.le_of_ble_eq_true rfl) V (tw_ki (fun y24 s23 V => ?_))
          refine wq_if_eq (pc := 187) (tgt := 197) dX3_readLine_187 rfl (fun c => ?_) (fun c => ?_)
          · have V := V.1 c
            refine wq_aload_n (pc := 197) dX3_readLine_197 rfl rfl ?_
            refine wq_iconst (pc := 198) dX3_readLine_198 csti1 ?_
            refine wq_aload_n (pc := 199) dX3_readLine_199 rfl rfl ?_
            refine tg4 (pc := 200) rfl dX3_readLine_200 ?_
            refine tcq1893 (pc := 203) (As := [.int (1 : Int32), .int (s23.1 4)]) (st := []) rfl dX3_readLine_203 rfl (Nat.le_of_ble_eq_true rfl) V (tw_kv (fun s25 V => ?_))
            refine wq_vret (pc := 206) dX3_readLine_206 rfl ⟨_, rfl, rfl, V⟩
          · have V := V.2 c
            refine wq_aload_n (pc := 190) dX3_readLine_190 rfl rfl ?_
            refine tcq1967 (pc := 191) (As := []) (st := []) rfl dX3_readLine_191 rfl (Nat.le_of_ble_eq_true rfl) V (tw_kv (fun s26 V => ?_))
            refine wq_goto (pc := 194) (tgt := 206) dX3_readLine_194 rfl ?_
            refine wq_vret (pc := 206) dX3_readLine_206 rfl ⟨_, rfl, rfl, V⟩
      · have V := V.2 c
        refine wq_aload_n (pc := 156) dX3_readLine_156 rfl rfl ?_
        refine tcq1963 (pc := 157) (As := []) (st := []) rfl dX3_readLine_157 rfl (Nat.le_of_ble_eq_true rfl) V (tw_kv (fun s27 V => ?_))
        refine wq_goto (pc := 160) (tgt := 206) dX3_readLine_160 rfl ?_
        refine wq_vret (pc := 206) dX3_readLine_206 rfl ⟨_, rfl, rfl, V⟩
  · have V := V.2 c
    refine wq_aload_n (pc := 122) dX3_readLine_122 rfl rfl ?_
    refine tcq1956 (pc := 123) (As := []) (st := []) rfl dX3_readLine_123 rfl (Nat.le_of_ble_eq_true rfl) V (tw_kv (fun s28 V => ?_))
    refine wq_goto (pc := 126) (tgt := 206) dX3_readLine_126 rfl ?_
    refine wq_vret (pc := 206) dX3_readLine_206 rfl ⟨_, rfl, rfl, V⟩
theorem vX3_begins_0 {G : wq_G} {l : Launch} {o : Nat} {ad : Nat → Nat} {h : wq_H} {d : Nat} {K : Int32 → tw_S → Prop} (ok : tw_ok G o ad)  {x1 : Nat} {x2 : Int32} {x3 : Int32} {s : tw_S} (V : tw_ci G l o ad h d mX3_isWord [.ref o, .ref x1] s (fun y2 s1 => (¬ y2 = 0 → (¬ x2 = 0 → (¬ (s1.1 13) = 0 → K (1 : Int32) s1) ∧ ((s1.1 13) = 0 → tw_cv G l o ad h d mX3_next [.ref o] s1 (fun s3 => K (1 : Int32) s3))) ∧ (x2 = 0 → tw_cv G l o ad h d mX3_wrong [.ref o, .int x3, .int (s1.1 4)] s1 (fun s4 => (¬ (s4.1 13) = 0 → K (1 : Int32) s4) ∧ ((s4.1 13) = 0 → tw_cv G l o ad h d mX3_next [.ref o] s4 (fun s5 => K (1 : Int32) s5))))) ∧ (y2 = 0 → K (0 : Int32) s1))) : tw_T G l o ad h d mX3_begins (tw_qi G o ad h K) 0 [some (.ref o), some (.ref x1), some (.int x2), some (.int x3)] [] s := by
  refine wq_aload_n (pc := 0) dX3_begins_0 rfl rfl ?_
  refine wq_aload_n (pc := 1) dX3_begins_1 rfl rfl ?_
  refine tcq1870 (pc := 2) (As := [.ref x1]) (st := []) rfl dX3_begins_2 rfl (Nat.le_of_ble_eq_true rfl) V (tw_ki (fun y2 s1 V => ?_))
  refine wq_if_ne (pc := 5) (tgt := 10) dX3_begins_5 rfl (fun c => ?_) (fun c => ?_)
  · have V := V.1 c
    refine wq_iload_n (pc := 10) dX3_begins_10 rfl rfl ?_
    refine wq_if_ne (pc := 11) (tgt := 23) dX3_begins_11 rfl (fun c => ?_) (fun c => ?_)
    · have V := V.1 c
      refine wq_aload_n (pc := 23) dX3_begins_23 rfl rfl ?_
      refine tg13 (pc := 24) rfl dX3_begins_24 ?_
      refine wq_if_ne (pc := 27) (tgt := 34) dX3_begins_27 rfl (fun c => ?_) (fun c => ?_)
      · have V := V.1 c
        refine wq_iconst (pc := 34) dX3_begins_34 csti1 ?_
        refine wq_zret (pc := 35) dX3_begins_35 rfl tw_nb1 ⟨_, _, rfl, rfl, V⟩
      · have V := V.2 c
        refine wq_aload_n (pc := 30) dX3_begins_30 rfl rfl ?_
        refine tcq1847 (pc := 31) (As := []) (st := []) rfl dX3_begins_31 rfl (Nat.le_of_ble_eq_true rfl) V (tw_kv (fun s3 V => ?_))
        refine wq_iconst (pc := 34) dX3_begins_34 csti1 ?_
        refine wq_zret (pc := 35) dX3_begins_35 rfl tw_nb1 ⟨_, _, rfl, rfl, V⟩
    · have V := V.2 c
      refine wq_aload_n (pc := 14) dX3_begins_14 rfl rfl ?_
      refine wq_iload_n (pc := 15) dX3_begins_15 rfl rfl ?_
      refine wq_aload_n (pc := 16) dX3_begins_16 rfl rfl ?_
      refine tg4 (pc := 17) rfl dX3_begins_17 ?_
      refine tcq1893 (pc := 20) (As := [.int x3, .int (s1.1 4)]) (st := []) rfl dX3_begins_20 rfl (Nat.le_of_ble_eq_true rfl) V (tw_kv (fun s4 V => ?_))
      refine wq_aload_n (pc := 23) dX3_begins_23 rfl rfl ?_
      refine tg13 (pc := 24) rfl dX3_begins_24 ?_
      refine wq_if_ne (pc := 27) (tgt := 34) dX3_begins_27 rfl (fun c => ?_) (fun c => ?_)
      · have V := V.1 c
        refine wq_iconst (pc := 34) dX3_begins_34 csti1 ?_
        refine wq_zret (pc := 35) dX3_begins_35 rfl tw_nb1 ⟨_, _, rfl, rfl, V⟩
      · have V := V.2 c
        refine wq_aload_n (pc := 30) dX3_begins_30 rfl rfl ?_
        refine tcq1847 (pc := 31) (As := []) (st := []) rfl dX3_begins_31 rfl (Nat.le_of_ble_eq_true rfl) V (tw_kv (fun s5 V => ?_))
        refine wq_iconst (pc := 34) dX3_begins_34 csti1 ?_
        refine wq_zret (pc := 35) dX3_begins_35 rfl tw_nb1 ⟨_, _, rfl, rfl, V⟩
  · have V := V.2 c
    refine wq_iconst (pc := 8) dX3_begins_8 csti0 ?_
    refine wq_zret (pc := 9) dX3_begins_9 rfl tw_nb0 ⟨_, _, rfl, rfl, V⟩
theorem vX3_isWord_0 {G : wq_G} {l : Launch} {o : Nat} {ad : Nat → Nat} {h : wq_H} {d : Nat} {K : Int32 → tw_S → Prop} (ok : tw_ok G o ad)  {x1 : Nat} {s : tw_S} (V : (¬ (s.1 13) = 0 → K (0 : Int32) s) ∧ ((s.1 13) = 0 → (¬ (s.1 6) = (2 : Int32) → K (0 : Int32) s) ∧ ((s.1 6) = (2 : Int32) → ∃ fs2 : List Value, tw_h G o ad s h x1 = some (.inr (18, fs2)) ∧ (tw_ci G l o ad h d mJ5_length [.ref x1] s (fun y4 s1 => ((s.1 8) = y4 → tw_T G l o ad h d mX3_isWord (tw_qi G o ad h K) 32 [some (.ref o), some (.ref x1), some (.int (1 : Int32)), some (.int (0 : Int32))] [] s1) ∧ (¬ (s.1 8) = y4 → K (0 : Int32) s1)))))) : tw_T G l o ad h d mX3_isWord (tw_qi G o ad h K) 0 [some (.ref o), some (.ref x1), none, none] [] s := by
  refine wq_aload_n (pc := 0) dX3_isWord_0 rfl rfl ?_
  refine tg13 (pc := 1) rfl dX3_isWord_1 ?_
  refine wq_if_ne (pc := 4) (tgt := 26) dX3_isWord_4 rfl (fun c => ?_) (fun c => ?_)
  · have V := V.1 c
    refine wq_iconst (pc := 26) dX3_isWord_26 csti0 ?_
    refine wq_zret (pc := 27) dX3_isWord_27 rfl tw_nb0 ⟨_, _, rfl, rfl, V⟩
  · have V := V.2 c
    refine wq_aload_n (pc := 7) dX3_isWord_7 rfl rfl ?_
    refine tg6 (pc := 8) rfl dX3_isWord_8 ?_
    refine wq_iconst (pc := 11) dX3_isWord_11 csti2 ?_
    refine wq_icmp_ne (pc := 12) (tgt := 26) dX3_isWord_12 rfl (fun c => ?_) (fun c => ?_)
    · have V := V.1 c
      refine wq_iconst (pc := 26) dX3_isWord_26 csti0 ?_
      refine wq_zret (pc := 27) dX3_isWord_27 rfl tw_nb0 ⟨_, _, rfl, rfl, V⟩
    · have V := V.2 c
      refine wq_aload_n (pc := 15) dX3_isWord_15 rfl rfl ?_
      refine tg8 (pc := 16) rfl dX3_isWord_16 ?_
      refine wq_aload_n (pc := 19) dX3_isWord_19 rfl rfl ?_
      obtain ⟨fs2, w3, V⟩ := V
      refine tcq1874 (pc := 20) (As := []) (st := [.int (s.1 8)]) rfl dX3_isWord_20 rfl (Nat.le_of_ble_eq_true rfl) w3 V (tw_ki (fun y4 s1 V => ?_))
      refine wq_icmp_eq (pc := 23) (tgt := 28) dX3_isWord_23 rfl (fun c => ?_) (fun c => ?_)
      · have V := V.1 c
        refine wq_iconst (pc := 28) dX3_isWord_28 csti1 ?_
        refine wq_istore_n (L' := [some (.ref o), some (.ref x1), some (.int (1 : Int32)), none]) (pc := 29) dX3_isWord_29 rfl (Nat.le_of_ble_eq_true rfl) rfl ?_
        refine wq_iconst (pc := 30) dX3_isWord_30 csti0 ?_
        refine wq_istore_n (L' := [some (.ref o), some (.ref x1), some (.int (1 : Int32)), some (.int (0 : Int32))]) (pc := 31) dX3_isWord_31 rfl (Nat.le_of_ble_eq_true rfl) rfl ?_
        exact V
      · have V := V.2 c
        refine wq_iconst (pc := 26) dX3_isWord_26 csti0 ?_
        refine wq_zret (pc := 27) dX3_isWord_27 rfl tw_nb0 ⟨_, _, rfl, rfl, V⟩
theorem vX3_isWord_32 {G : wq_G} {l : Launch} {o : Nat} {ad : Nat → Nat} {h : wq_H} {d : Nat} {K : Int32 → tw_S → Prop} (ok : tw_ok G o ad)  {x1 : Nat} {x2 : Int32} {x3 : Int32} {s : tw_S} (V : ((s.1 8) ≤ x3 → (x2 = 0 ∨ x2 = 1) ∧ K x2 s) ∧ (¬ (s.1 8) ≤ x3 → (x2 = 0 → tw_T G l o ad h d mX3_isWord (tw_qi G o ad h K) 32 [some (.ref o), some (.ref x1), some (.int (0 : Int32)), some (.int (x3 + (1 : Int32)))] [] s) ∧ (¬ x2 = 0 → tw_ld s 12 x3 (fun y1 => ∃ fs3 : List Value, tw_h G o ad s h x1 = some (.inr (18, fs3)) ∧ (tw_ci G l o ad h d mJ5_charAt [.ref x1, .int x3] s (fun y5 s2 => (¬ y1 = y5 → tw_T G l o ad h d mX3_isWord (tw_qi G o ad h K) 32 [some (.ref o), some (.ref x1), some (.int (0 : Int32)), some (.int (x3 + (1 : Int32)))] [] s2) ∧ (y1 = y5 → tw_T G l o ad h d mX3_isWord (tw_qi G o ad h K) 32 [some (.ref o), some (.ref x1), some (.int (1 : Int32)), some (.int (x3 + (1 : Int32)))] [] s2))))))) : tw_T G l o ad h d mX3_isWord (tw_qi G o ad h K) 32 [some (.ref o), some (.ref x1), some (.int x2), some (.int x3)] [] s := by
  refine wq_iload_n (pc := 32) dX3_isWord_32 rfl rfl ?_
  refine wq_aload_n (pc := 33) dX3_isWord_33 rfl rfl ?_
  refine tg8 (pc := 34) rfl dX3_isWord_34 ?_
  refine wq_icmp_ge (pc := 37) (tgt := 70) dX3_isWord_37 rfl (fun c => ?_) (fun c => ?_)
  · have V := V.1 c
    refine wq_iload_n (pc := 70) dX3_isWord_70 rfl rfl ?_
    refine wq_zret (pc := 71) dX3_isWord_71 rfl (tw_z V.1).1 ⟨_, _, rfl, rfl, V.2⟩
  · have V := V.2 c
    refine wq_iload_n (pc := 40) dX3_isWord_40 rfl rfl ?_
    refine wq_if_eq (pc := 41) (tgt := 62) dX3_isWord_41 rfl (fun c => ?_) (fun c => ?_)
    · have V := V.1 c
      refine wq_iconst (pc := 62) dX3_isWord_62 csti0 ?_
      refine wq_istore_n (L' := [some (.ref o), some (.ref x1), some (.int (0 : Int32)), some (.int x3)]) (pc := 63) dX3_isWord_63 rfl (Nat.le_of_ble_eq_true rfl) rfl ?_
      refine wq_iinc (L' := [some (.ref o), some (.ref x1), some (.int (0 : Int32)), some (.int (x3 + (1 : Int32)))]) (pc := 64) dX3_isWord_64 rfl (by rw [csti1]) (Nat.le_of_ble_eq_true rfl) rfl ?_
      refine wq_goto (pc := 67) (tgt := 32) dX3_isWord_67 rfl ?_
      exact V
    · have V := V.2 c
      refine wq_aload_n (pc := 44) dX3_isWord_44 rfl rfl ?_
      refine tg12 (pc := 45) rfl dX3_isWord_45 ?_
      refine wq_iload_n (pc := 48) dX3_isWord_48 rfl rfl ?_
      refine tw_iald' (pc := 49) ok mia12 dX3_isWord_49 V (fun y1 V => ?_)
      refine wq_aload_n (pc := 50) dX3_isWord_50 rfl rfl ?_
      refine wq_iload_n (pc := 51) dX3_isWord_51 rfl rfl ?_
      obtain ⟨fs3, w4, V⟩ := V
      refine tcq1882 (pc := 52) (As := [.int x3]) (st := [.int y1]) rfl dX3_isWord_52 rfl (Nat.le_of_ble_eq_true rfl) w4 V (tw_ki (fun y5 s2 V => ?_))
      refine wq_icmp_ne (pc := 55) (tgt := 62) dX3_isWord_55 rfl (fun c => ?_) (fun c => ?_)
      · have V := V.1 c
        refine wq_iconst (pc := 62) dX3_isWord_62 csti0 ?_
        refine wq_istore_n (L' := [some (.ref o), some (.ref x1), some (.int (0 : Int32)), some (.int x3)]) (pc := 63) dX3_isWord_63 rfl (Nat.le_of_ble_eq_true rfl) rfl ?_
        refine wq_iinc (L' := [some (.ref o), some (.ref x1), some (.int (0 : Int32)), some (.int (x3 + (1 : Int32)))]) (pc := 64) dX3_isWord_64 rfl (by rw [csti1]) (Nat.le_of_ble_eq_true rfl) rfl ?_
        refine wq_goto (pc := 67) (tgt := 32) dX3_isWord_67 rfl ?_
        exact V
      · have V := V.2 c
        refine wq_iconst (pc := 58) dX3_isWord_58 csti1 ?_
        refine wq_goto (pc := 59) (tgt := 63) dX3_isWord_59 rfl ?_
        refine wq_istore_n (L' := [some (.ref o), some (.ref x1), some (.int (1 : Int32)), some (.int x3)]) (pc := 63) dX3_isWord_63 rfl (Nat.le_of_ble_eq_true rfl) rfl ?_
        refine wq_iinc (L' := [some (.ref o), some (.ref x1), some (.int (1 : Int32)), some (.int (x3 + (1 : Int32)))]) (pc := 64) dX3_isWord_64 rfl (by rw [csti1]) (Nat.le_of_ble_eq_true rfl) rfl ?_
        refine wq_goto (pc := 67) (tgt := 32) dX3_isWord_67 rfl ?_
        exact V
theorem vX3_wrong_0 {G : wq_G} {l : Launch} {o : Nat} {ad : Nat → Nat} {h : wq_H} {d : Nat} {K : tw_S → Prop} (ok : tw_ok G o ad)  {x1 : Int32} {x2 : Int32} {s : tw_S} (V : ((s.1 13) = 0 → tw_pt s 13 (1 : Int32) (fun s1 => tw_pt s1 9 x1 (fun s2 => tw_pt s2 10 x2 (fun s3 => K s3)))) ∧ (¬ (s.1 13) = 0 → K s)) : tw_T G l o ad h d mX3_wrong (tw_qv G o ad h K) 0 [some (.ref o), some (.int x1), some (.int x2)] [] s := by
  refine wq_aload_n (pc := 0) dX3_wrong_0 rfl rfl ?_
  refine tg13 (pc := 1) rfl dX3_wrong_1 ?_
  refine wq_if_eq (pc := 4) (tgt := 8) dX3_wrong_4 rfl (fun c => ?_) (fun c => ?_)
  · have V := V.1 c
    refine wq_aload_n (pc := 8) dX3_wrong_8 rfl rfl ?_
    refine wq_iconst (pc := 9) dX3_wrong_9 csti1 ?_
    refine tpc13_1 (pc := 10) rfl ok dX3_wrong_10 V (fun s1 V => ?_)
    refine wq_aload_n (pc := 13) dX3_wrong_13 rfl rfl ?_
    refine wq_iload_n (pc := 14) dX3_wrong_14 rfl rfl ?_
    refine tp9 (pc := 15) rfl ok dX3_wrong_15 V (fun s2 V => ?_)
    refine wq_aload_n (pc := 18) dX3_wrong_18 rfl rfl ?_
    refine wq_iload_n (pc := 19) dX3_wrong_19 rfl rfl ?_
    refine tp10 (pc := 20) rfl ok dX3_wrong_20 V (fun s3 V => ?_)
    refine wq_vret (pc := 23) dX3_wrong_23 rfl ⟨_, rfl, rfl, V⟩
  · have V := V.2 c
    refine wq_vret (pc := 7) dX3_wrong_7 rfl ⟨_, rfl, rfl, V⟩
theorem vX3_lawLine_0 {G : wq_G} {l : Launch} {o : Nat} {ad : Nat → Nat} {h : wq_H} {d : Nat} {K : tw_S → Prop} (ok : tw_ok G o ad)   {s : tw_S} (V : tw_cv G l o ad h d mX3_pass [.ref o, .ref (G.2.2.2.2 17)] s (fun s1 => tw_ci G l o ad h d mX3_number [.ref o, .int (1 : Int32), .int (60 : Int32)] s1 (fun y3 s2 => (¬ (s2.1 13) = 0 → K s2) ∧ ((s2.1 13) = 0 → tw_st s2 16 (49 : Int32) y3 (fun s4 => K s4))))) : tw_T G l o ad h d mX3_lawLine (tw_qv G o ad h K) 0 [some (.ref o), none] [] s := by
  refine wq_aload_n (pc := 0) dX3_lawLine_0 rfl rfl ?_
  refine wq_ldcS (a := G.2.2.2.2 17) (pc := 1) (mstr_X3_221 G) dX3_lawLine_1 ?_
  refine tcq1902 (pc := 3) (As := [.ref (G.2.2.2.2 17)]) (st := []) rfl dX3_lawLine_3 rfl (Nat.le_of_ble_eq_true rfl) V (tw_kv (fun s1 V => ?_))
  refine wq_aload_n (pc := 6) dX3_lawLine_6 rfl rfl ?_
  refine wq_iconst (pc := 7) dX3_lawLine_7 csti1 ?_
  refine wq_bipush (pc := 8) dX3_lawLine_8 cstb60 ?_
  refine tcq1910 (pc := 10) (As := [.int (1 : Int32), .int (60 : Int32)]) (st := []) rfl dX3_lawLine_10 rfl (Nat.le_of_ble_eq_true rfl) V (tw_ki (fun y3 s2 V => ?_))
  refine wq_istore_n (L' := [some (.ref o), some (.int y3)]) (pc := 13) dX3_lawLine_13 rfl (Nat.le_of_ble_eq_true rfl) rfl ?_
  refine wq_aload_n (pc := 14) dX3_lawLine_14 rfl rfl ?_
  refine tg13 (pc := 15) rfl dX3_lawLine_15 ?_
  refine wq_if_ne (pc := 18) (tgt := 29) dX3_lawLine_18 rfl (fun c => ?_) (fun c => ?_)
  · have V := V.1 c
    refine wq_vret (pc := 29) dX3_lawLine_29 rfl ⟨_, rfl, rfl, V⟩
  · have V := V.2 c
    refine wq_aload_n (pc := 21) dX3_lawLine_21 rfl rfl ?_
    refine tg16 (pc := 22) rfl dX3_lawLine_22 ?_
    refine wq_bipush (pc := 25) dX3_lawLine_25 cstb49 ?_
    refine wq_iload_n (pc := 27) dX3_lawLine_27 rfl rfl ?_
    refine tw_iast' (pc := 28) ok mia16 dX3_lawLine_28 V (fun s4 V => ?_)
    refine wq_vret (pc := 29) dX3_lawLine_29 rfl ⟨_, rfl, rfl, V⟩
theorem vX3_pass_0 {G : wq_G} {l : Launch} {o : Nat} {ad : Nat → Nat} {h : wq_H} {d : Nat} {K : tw_S → Prop} (ok : tw_ok G o ad)  {x1 : Nat} {s : tw_S} (V : (¬ (s.1 13) = 0 → K s) ∧ ((s.1 13) = 0 → tw_ci G l o ad h d mX3_takes [.ref o, .ref x1] s (fun y2 s1 => (¬ y2 = 0 → K s1) ∧ (y2 = 0 → tw_cv G l o ad h d mX3_wrong [.ref o, .int (1 : Int32), .int (s1.1 4)] s1 (fun s3 => K s3))))) : tw_T G l o ad h d mX3_pass (tw_qv G o ad h K) 0 [some (.ref o), some (.ref x1)] [] s := by
  refine wq_aload_n (pc := 0) dX3_pass_0 rfl rfl ?_
  refine tg13 (pc := 1) rfl dX3_pass_1 ?_
  refine wq_if_ne (pc := 4) (tgt := 24) dX3_pass_4 rfl (fun c => ?_) (fun c => ?_)
  · have V := V.1 c
    refine wq_vret (pc := 24) dX3_pass_24 rfl ⟨_, rfl, rfl, V⟩
  · have V := V.2 c
    refine wq_aload_n (pc := 7) dX3_pass_7 rfl rfl ?_
    refine wq_aload_n (pc := 8) dX3_pass_8 rfl rfl ?_
    refine tcq1906 (pc := 9) (As := [.ref x1]) (st := []) rfl dX3_pass_9 rfl (Nat.le_of_ble_eq_true rfl) V (tw_ki (fun y2 s1 V => ?_))
    refine wq_if_ne (pc := 12) (tgt := 24) dX3_pass_12 rfl (fun c => ?_) (fun c => ?_)
    · have V := V.1 c
      refine wq_vret (pc := 24) dX3_pass_24 rfl ⟨_, rfl, rfl, V⟩
    · have V := V.2 c
      refine wq_aload_n (pc := 15) dX3_pass_15 rfl rfl ?_
      refine wq_iconst (pc := 16) dX3_pass_16 csti1 ?_
      refine wq_aload_n (pc := 17) dX3_pass_17 rfl rfl ?_
      refine tg4 (pc := 18) rfl dX3_pass_18 ?_
      refine tcq1893 (pc := 21) (As := [.int (1 : Int32), .int (s1.1 4)]) (st := []) rfl dX3_pass_21 rfl (Nat.le_of_ble_eq_true rfl) V (tw_kv (fun s3 V => ?_))
      refine wq_vret (pc := 24) dX3_pass_24 rfl ⟨_, rfl, rfl, V⟩
theorem vX3_takes_0 {G : wq_G} {l : Launch} {o : Nat} {ad : Nat → Nat} {h : wq_H} {d : Nat} {K : Int32 → tw_S → Prop} (ok : tw_ok G o ad)  {x1 : Nat} {s : tw_S} (V : tw_ci G l o ad h d mX3_isWord [.ref o, .ref x1] s (fun y2 s1 => (¬ y2 = 0 → tw_cv G l o ad h d mX3_next [.ref o] s1 (fun s3 => K (1 : Int32) s3)) ∧ (y2 = 0 → K (0 : Int32) s1))) : tw_T G l o ad h d mX3_takes (tw_qi G o ad h K) 0 [some (.ref o), some (.ref x1)] [] s := by
  refine wq_aload_n (pc := 0) dX3_takes_0 rfl rfl ?_
  refine wq_aload_n (pc := 1) dX3_takes_1 rfl rfl ?_
  refine tcq1870 (pc := 2) (As := [.ref x1]) (st := []) rfl dX3_takes_2 rfl (Nat.le_of_ble_eq_true rfl) V (tw_ki (fun y2 s1 V => ?_))
  refine wq_if_ne (pc := 5) (tgt := 10) dX3_takes_5 rfl (fun c => ?_) (fun c => ?_)
  · have V := V.1 c
    refine wq_aload_n (pc := 10) dX3_takes_10 rfl rfl ?_
    refine tcq1847 (pc := 11) (As := []) (st := []) rfl dX3_takes_11 rfl (Nat.le_of_ble_eq_true rfl) V (tw_kv (fun s3 V => ?_))
    refine wq_iconst (pc := 14) dX3_takes_14 csti1 ?_
    refine wq_zret (pc := 15) dX3_takes_15 rfl tw_nb1 ⟨_, _, rfl, rfl, V⟩
  · have V := V.2 c
    refine wq_iconst (pc := 8) dX3_takes_8 csti0 ?_
    refine wq_zret (pc := 9) dX3_takes_9 rfl tw_nb0 ⟨_, _, rfl, rfl, V⟩
theorem vX3_number_0 {G : wq_G} {l : Launch} {o : Nat} {ad : Nat → Nat} {h : wq_H} {d : Nat} {K : Int32 → tw_S → Prop} (ok : tw_ok G o ad)  {x1 : Int32} {x2 : Int32} {s : tw_S} (V : ((s.1 13) = 0 → ((s.1 6) = (3 : Int32) → tw_ci G l o ad h d mX3_within [.int (s.1 7), .int x1, .int x2] s (fun y2 s1 => (¬ y2 = 0 → tw_cv G l o ad h d mX3_next [.ref o] s1 (fun s3 => K (s.1 7) s3)) ∧ (y2 = 0 → tw_cv G l o ad h d mX3_wrong [.ref o, .int (4 : Int32), .int (s1.1 4)] s1 (fun s4 => K x1 s4)))) ∧ (¬ (s.1 6) = (3 : Int32) → tw_cv G l o ad h d mX3_wrong [.ref o, .int (1 : Int32), .int (s.1 4)] s (fun s5 => K x1 s5))) ∧ (¬ (s.1 13) = 0 → K x1 s)) : tw_T G l o ad h d mX3_number (tw_qi G o ad h K) 0 [some (.ref o), some (.int x1), some (.int x2), none] [] s := by
  refine wq_aload_n (pc := 0) dX3_number_0 rfl rfl ?_
  refine tg13 (pc := 1) rfl dX3_number_1 ?_
  refine wq_if_eq (pc := 4) (tgt := 9) dX3_number_4 rfl (fun c => ?_) (fun c => ?_)
  · have V := V.1 c
    refine wq_aload_n (pc := 9) dX3_number_9 rfl rfl ?_
    refine tg6 (pc := 10) rfl dX3_number_10 ?_
    refine wq_iconst (pc := 13) dX3_number_13 csti3 ?_
    refine wq_icmp_eq (pc := 14) (tgt := 28) dX3_number_14 rfl (fun c => ?_) (fun c => ?_)
    · have V := V.1 c
      refine wq_aload_n (pc := 28) dX3_number_28 rfl rfl ?_
      refine tg7 (pc := 29) rfl dX3_number_29 ?_
      refine wq_istore_n (L' := [some (.ref o), some (.int x1), some (.int x2), some (.int (s.1 7))]) (pc := 32) dX3_number_32 rfl (Nat.le_of_ble_eq_true rfl) rfl ?_
      refine wq_iload_n (pc := 33) dX3_number_33 rfl rfl ?_
      refine wq_iload_n (pc := 34) dX3_number_34 rfl rfl ?_
      refine wq_iload_n (pc := 35) dX3_number_35 rfl rfl ?_
      refine tcq1840 (pc := 36) (As := [.int (s.1 7), .int x1, .int x2]) (st := []) rfl dX3_number_36 rfl (Nat.le_of_ble_eq_true rfl) V (tw_ki (fun y2 s1 V => ?_))
      refine wq_if_ne (pc := 39) (tgt := 53) dX3_number_39 rfl (fun c => ?_) (fun c => ?_)
      · have V := V.1 c
        refine wq_aload_n (pc := 53) dX3_number_53 rfl rfl ?_
        refine tcq1847 (pc := 54) (As := []) (st := []) rfl dX3_number_54 rfl (Nat.le_of_ble_eq_true rfl) V (tw_kv (fun s3 V => ?_))
        refine wq_iload_n (pc := 57) dX3_number_57 rfl rfl ?_
        refine wq_iret (pc := 58) dX3_number_58 rfl ⟨_, _, rfl, rfl, V⟩
      · have V := V.2 c
        refine wq_aload_n (pc := 42) dX3_number_42 rfl rfl ?_
        refine wq_iconst (pc := 43) dX3_number_43 csti4 ?_
        refine wq_aload_n (pc := 44) dX3_number_44 rfl rfl ?_
        refine tg4 (pc := 45) rfl dX3_number_45 ?_
        refine tcq1893 (pc := 48) (As := [.int (4 : Int32), .int (s1.1 4)]) (st := []) rfl dX3_number_48 rfl (Nat.le_of_ble_eq_true rfl) V (tw_kv (fun s4 V => ?_))
        refine wq_iload_n (pc := 51) dX3_number_51 rfl rfl ?_
        refine wq_iret (pc := 52) dX3_number_52 rfl ⟨_, _, rfl, rfl, V⟩
    · have V := V.2 c
      refine wq_aload_n (pc := 17) dX3_number_17 rfl rfl ?_
      refine wq_iconst (pc := 18) dX3_number_18 csti1 ?_
      refine wq_aload_n (pc := 19) dX3_number_19 rfl rfl ?_
      refine tg4 (pc := 20) rfl dX3_number_20 ?_
      refine tcq1893 (pc := 23) (As := [.int (1 : Int32), .int (s.1 4)]) (st := []) rfl dX3_number_23 rfl (Nat.le_of_ble_eq_true rfl) V (tw_kv (fun s5 V => ?_))
      refine wq_iload_n (pc := 26) dX3_number_26 rfl rfl ?_
      refine wq_iret (pc := 27) dX3_number_27 rfl ⟨_, _, rfl, rfl, V⟩
  · have V := V.2 c
    refine wq_iload_n (pc := 7) dX3_number_7 rfl rfl ?_
    refine wq_iret (pc := 8) dX3_number_8 rfl ⟨_, _, rfl, rfl, V⟩
theorem vX3_newNames_0 {G : wq_G} {l : Launch} {o : Nat} {ad : Nat → Nat} {h : wq_H} {d : Nat} {K : tw_S → Prop} (ok : tw_ok G o ad)  {x1 : Int32} {x2 : Int32} {x3 : Int32} {s : tw_S} (V : (¬ (s.1 13) = 0 → tw_T G l o ad h d mX3_newNames (tw_qv G o ad h K) 14 [some (.ref o), some (.int x1), some (.int x2), some (.int x3), some (.int (0 : Int32)), none, none] [] s) ∧ ((s.1 13) = 0 → tw_T G l o ad h d mX3_newNames (tw_qv G o ad h K) 14 [some (.ref o), some (.int x1), some (.int x2), some (.int x3), some (.int (1 : Int32)), none, none] [] s)) : tw_T G l o ad h d mX3_newNames (tw_qv G o ad h K) 0 [some (.ref o), some (.int x1), some (.int x2), some (.int x3), none, none, none] [] s := by
  refine wq_aload_n (pc := 0) dX3_newNames_0 rfl rfl ?_
  refine tg13 (pc := 1) rfl dX3_newNames_1 ?_
  refine wq_if_ne (pc := 4) (tgt := 11) dX3_newNames_4 rfl (fun c => ?_) (fun c => ?_)
  · have V := V.1 c
    refine wq_iconst (pc := 11) dX3_newNames_11 csti0 ?_
    refine wq_istore (L' := [some (.ref o), some (.int x1), some (.int x2), some (.int x3), some (.int (0 : Int32)), none, none]) (pc := 12) dX3_newNames_12 (Nat.le_of_ble_eq_true rfl) rfl ?_
    exact V
  · have V := V.2 c
    refine wq_iconst (pc := 7) dX3_newNames_7 csti1 ?_
    refine wq_goto (pc := 8) (tgt := 12) dX3_newNames_8 rfl ?_
    refine wq_istore (L' := [some (.ref o), some (.int x1), some (.int x2), some (.int x3), some (.int (1 : Int32)), none, none]) (pc := 12) dX3_newNames_12 (Nat.le_of_ble_eq_true rfl) rfl ?_
    exact V
theorem vX3_newNames_14 {G : wq_G} {l : Launch} {o : Nat} {ad : Nat → Nat} {h : wq_H} {d : Nat} {K : tw_S → Prop} (ok : tw_ok G o ad)  {x1 : Int32} {x2 : Int32} {x3 : Int32} {x4 : Int32} {s : tw_S} (V : (x4 = 0 → K s) ∧ (¬ x4 = 0 → tw_cv G l o ad h d mX3_mustName [.ref o] s (fun s1 => (¬ (s1.1 13) = 0 → tw_T G l o ad h d mX3_newNames (tw_qv G o ad h K) 46 [some (.ref o), some (.int x1), some (.int x2), some (.int x3), none, none, none] [] s1) ∧ ((s1.1 13) = 0 → tw_ci G l o ad h d mX3_find [.ref o] s1 (fun y3 s2 => (y3 < 0 → tw_T G l o ad h d mX3_newNames (tw_qv G o ad h K) 46 [some (.ref o), some (.int x1), some (.int x2), some (.int x3), none, none, none] [] s2) ∧ (¬ y3 < 0 → tw_cv G l o ad h d mX3_wrong [.ref o, .int (3 : Int32), .int (s2.1 4)] s2 (fun s4 => tw_T G l o ad h d mX3_newNames (tw_qv G o ad h K) 46 [some (.ref o), some (.int x1), some (.int x2), some (.int x3), none, none, none] [] s4))))))) : tw_T G l o ad h d mX3_newNames (tw_qv G o ad h K) 14 [some (.ref o), some (.int x1), some (.int x2), some (.int x3), some (.int x4), none, none] [] s := by
  refine wq_iload (pc := 14) dX3_newNames_14 rfl ?_
  refine wq_if_eq (pc := 16) (tgt := 170) dX3_newNames_16 rfl (fun c => ?_) (fun c => ?_)
  · have V := V.1 c
    refine wq_vret (pc := 170) dX3_newNames_170 rfl ⟨_, rfl, rfl, V⟩
  · have V := V.2 c
    refine wq_aload_n (pc := 19) dX3_newNames_19 rfl rfl ?_
    refine tcq1919 (pc := 20) (As := []) (st := []) rfl dX3_newNames_20 rfl (Nat.le_of_ble_eq_true rfl) V (tw_kv (fun s1 V => ?_))
    refine wq_aload_n (pc := 23) dX3_newNames_23 rfl rfl ?_
    refine tg13 (pc := 24) rfl dX3_newNames_24 ?_
    refine wq_if_ne (pc := 27) (tgt := 46) dX3_newNames_27 rfl (fun c => ?_) (fun c => ?_)
    · have V := V.1 c
      exact wq_T.less V ⟨rfl, ⟨rfl, ⟨rfl, ⟨rfl, trivial⟩⟩⟩⟩
    · have V := V.2 c
      refine wq_aload_n (pc := 30) dX3_newNames_30 rfl rfl ?_
      refine tcq1928 (pc := 31) (As := []) (st := []) rfl dX3_newNames_31 rfl (Nat.le_of_ble_eq_true rfl) V (tw_ki (fun y3 s2 V => ?_))
      refine wq_if_lt (pc := 34) (tgt := 46) dX3_newNames_34 rfl (fun c => ?_) (fun c => ?_)
      · have V := V.1 c
        exact wq_T.less V ⟨rfl, ⟨rfl, ⟨rfl, ⟨rfl, trivial⟩⟩⟩⟩
      · have V := V.2 c
        refine wq_aload_n (pc := 37) dX3_newNames_37 rfl rfl ?_
        refine wq_iconst (pc := 38) dX3_newNames_38 csti3 ?_
        refine wq_aload_n (pc := 39) dX3_newNames_39 rfl rfl ?_
        refine tg4 (pc := 40) rfl dX3_newNames_40 ?_
        refine tcq1893 (pc := 43) (As := [.int (3 : Int32), .int (s2.1 4)]) (st := []) rfl dX3_newNames_43 rfl (Nat.le_of_ble_eq_true rfl) V (tw_kv (fun s4 V => ?_))
        exact wq_T.less V ⟨rfl, ⟨rfl, ⟨rfl, ⟨rfl, trivial⟩⟩⟩⟩
theorem vX3_newNames_46 {G : wq_G} {l : Launch} {o : Nat} {ad : Nat → Nat} {h : wq_H} {d : Nat} {K : tw_S → Prop} (ok : tw_ok G o ad)  {x1 : Int32} {x2 : Int32} {x3 : Int32} {s : tw_S} (V : (¬ (s.1 13) = 0 → ((s.1 13) = 0 → tw_ld s 16 x1 (fun y1 => tw_T G l o ad h d mX3_newNames (tw_qv G o ad h K) 93 [some (.ref o), some (.int x1), some (.int x2), some (.int x3), none, some (.int (x2 + y1)), some (.int (0 : Int32))] [] s)) ∧ (¬ (s.1 13) = 0 → K s)) ∧ ((s.1 13) = 0 → tw_ld s 16 x1 (fun y2 => (¬ y2 = x3 → ((s.1 13) = 0 → tw_ld s 16 x1 (fun y3 => tw_T G l o ad h d mX3_newNames (tw_qv G o ad h K) 93 [some (.ref o), some (.int x1), some (.int x2), some (.int x3), none, some (.int (x2 + y3)), some (.int (0 : Int32))] [] s)) ∧ (¬ (s.1 13) = 0 → K s)) ∧ (y2 = x3 → tw_cv G l o ad h d mX3_wrong [.ref o, .int (5 : Int32), .int (s.1 4)] s (fun s4 => ((s4.1 13) = 0 → tw_ld s4 16 x1 (fun y5 => tw_T G l o ad h d mX3_newNames (tw_qv G o ad h K) 93 [some (.ref o), some (.int x1), some (.int x2), some (.int x3), none, some (.int (x2 + y5)), some (.int (0 : Int32))] [] s4)) ∧ (¬ (s4.1 13) = 0 → K s4)))))) : tw_T G l o ad h d mX3_newNames (tw_qv G o ad h K) 46 [some (.ref o), some (.int x1), some (.int x2), some (.int x3), none, none, none] [] s := by
  refine wq_aload_n (pc := 46) dX3_newNames_46 rfl rfl ?_
  refine tg13 (pc := 47) rfl dX3_newNames_47 ?_
  refine wq_if_ne (pc := 50) (tgt := 72) dX3_newNames_50 rfl (fun c => ?_) (fun c => ?_)
  · have V := V.1 c
    refine wq_aload_n (pc := 72) dX3_newNames_72 rfl rfl ?_
    refine tg13 (pc := 73) rfl dX3_newNames_73 ?_
    refine wq_if_eq (pc := 76) (tgt := 80) dX3_newNames_76 rfl (fun c => ?_) (fun c => ?_)
    · have V := V.1 c
      refine wq_iload_n (pc := 80) dX3_newNames_80 rfl rfl ?_
      refine wq_aload_n (pc := 81) dX3_newNames_81 rfl rfl ?_
      refine tg16 (pc := 82) rfl dX3_newNames_82 ?_
      refine wq_iload_n (pc := 85) dX3_newNames_85 rfl rfl ?_
      refine tw_iald' (pc := 86) ok mia16 dX3_newNames_86 V (fun y1 V => ?_)
      refine wq_iadd (pc := 87) dX3_newNames_87 ?_
      refine wq_istore (L' := [some (.ref o), some (.int x1), some (.int x2), some (.int x3), none, some (.int (x2 + y1)), none]) (pc := 88) dX3_newNames_88 (Nat.le_of_ble_eq_true rfl) rfl ?_
      refine wq_iconst (pc := 90) dX3_newNames_90 csti0 ?_
      refine wq_istore (L' := [some (.ref o), some (.int x1), some (.int x2), some (.int x3), none, some (.int (x2 + y1)), some (.int (0 : Int32))]) (pc := 91) dX3_newNames_91 (Nat.le_of_ble_eq_true rfl) rfl ?_
      exact V
    · have V := V.2 c
      refine wq_vret (pc := 79) dX3_newNames_79 rfl ⟨_, rfl, rfl, V⟩
  · have V := V.2 c
    refine wq_aload_n (pc := 53) dX3_newNames_53 rfl rfl ?_
    refine tg16 (pc := 54) rfl dX3_newNames_54 ?_
    refine wq_iload_n (pc := 57) dX3_newNames_57 rfl rfl ?_
    refine tw_iald' (pc := 58) ok mia16 dX3_newNames_58 V (fun y2 V => ?_)
    refine wq_iload_n (pc := 59) dX3_newNames_59 rfl rfl ?_
    refine wq_icmp_ne (pc := 60) (tgt := 72) dX3_newNames_60 rfl (fun c => ?_) (fun c => ?_)
    · have V := V.1 c
      refine wq_aload_n (pc := 72) dX3_newNames_72 rfl rfl ?_
      refine tg13 (pc := 73) rfl dX3_newNames_73 ?_
      refine wq_if_eq (pc := 76) (tgt := 80) dX3_newNames_76 rfl (fun c => ?_) (fun c => ?_)
      · have V := V.1 c
        refine wq_iload_n (pc := 80) dX3_newNames_80 rfl rfl ?_
        refine wq_aload_n (pc := 81) dX3_newNames_81 rfl rfl ?_
        refine tg16 (pc := 82) rfl dX3_newNames_82 ?_
        refine wq_iload_n (pc := 85) dX3_newNames_85 rfl rfl ?_
        refine tw_iald' (pc := 86) ok mia16 dX3_newNames_86 V (fun y3 V => ?_)
        refine wq_iadd (pc := 87) dX3_newNames_87 ?_
        refine wq_istore (L' := [some (.ref o), some (.int x1), some (.int x2), some (.int x3), none, some (.int (x2 + y3)), none]) (pc := 88) dX3_newNames_88 (Nat.le_of_ble_eq_true rfl) rfl ?_
        refine wq_iconst (pc := 90) dX3_newNames_90 csti0 ?_
        refine wq_istore (L' := [some (.ref o), some (.int x1), some (.int x2), some (.int x3), none, some (.int (x2 + y3)), some (.int (0 : Int32))]) (pc := 91) dX3_newNames_91 (Nat.le_of_ble_eq_true rfl) rfl ?_
        exact V
      · have V := V.2 c
        refine wq_vret (pc := 79) dX3_newNames_79 rfl ⟨_, rfl, rfl, V⟩
    · have V := V.2 c
      refine wq_aload_n (pc := 63) dX3_newNames_63 rfl rfl ?_
      refine wq_iconst (pc := 64) dX3_newNames_64 csti5 ?_
      refine wq_aload_n (pc := 65) dX3_newNames_65 rfl rfl ?_
      refine tg4 (pc := 66) rfl dX3_newNames_66 ?_
      refine tcq1893 (pc := 69) (As := [.int (5 : Int32), .int (s.1 4)]) (st := []) rfl dX3_newNames_69 rfl (Nat.le_of_ble_eq_true rfl) V (tw_kv (fun s4 V => ?_))
      refine wq_aload_n (pc := 72) dX3_newNames_72 rfl rfl ?_
      refine tg13 (pc := 73) rfl dX3_newNames_73 ?_
      refine wq_if_eq (pc := 76) (tgt := 80) dX3_newNames_76 rfl (fun c => ?_) (fun c => ?_)
      · have V := V.1 c
        refine wq_iload_n (pc := 80) dX3_newNames_80 rfl rfl ?_
        refine wq_aload_n (pc := 81) dX3_newNames_81 rfl rfl ?_
        refine tg16 (pc := 82) rfl dX3_newNames_82 ?_
        refine wq_iload_n (pc := 85) dX3_newNames_85 rfl rfl ?_
        refine tw_iald' (pc := 86) ok mia16 dX3_newNames_86 V (fun y5 V => ?_)
        refine wq_iadd (pc := 87) dX3_newNames_87 ?_
        refine wq_istore (L' := [some (.ref o), some (.int x1), some (.int x2), some (.int x3), none, some (.int (x2 + y5)), none]) (pc := 88) dX3_newNames_88 (Nat.le_of_ble_eq_true rfl) rfl ?_
        refine wq_iconst (pc := 90) dX3_newNames_90 csti0 ?_
        refine wq_istore (L' := [some (.ref o), some (.int x1), some (.int x2), some (.int x3), none, some (.int (x2 + y5)), some (.int (0 : Int32))]) (pc := 91) dX3_newNames_91 (Nat.le_of_ble_eq_true rfl) rfl ?_
        exact V
      · have V := V.2 c
        refine wq_vret (pc := 79) dX3_newNames_79 rfl ⟨_, rfl, rfl, V⟩
theorem vX3_newNames_93 {G : wq_G} {l : Launch} {o : Nat} {ad : Nat → Nat} {h : wq_H} {d : Nat} {K : tw_S → Prop} (ok : tw_ok G o ad)  {x1 : Int32} {x2 : Int32} {x3 : Int32} {x5 : Int32} {x6 : Int32} {s : tw_S} (V : ((s.1 8) ≤ x6 → tw_st s 16 ((211 : Int32) + x5) (s.1 8) (fun s1 => tw_ld s1 16 x1 (fun y2 => tw_st s1 16 x1 (y2 + (1 : Int32)) (fun s3 => tw_cv G l o ad h d mX3_next [.ref o] s3 (fun s4 => tw_ci G l o ad h d mX3_comma [.ref o] s4 (fun y6 s5 => tw_T G l o ad h d mX3_newNames (tw_qv G o ad h K) 14 [some (.ref o), some (.int x1), some (.int x2), some (.int x3), some (.int y6), none, none] [] s5)))))) ∧ (¬ (s.1 8) ≤ x6 → tw_ld s 12 x6 (fun y7 => tw_st s 16 (((226 : Int32) + ((8 : Int32) * x5)) + x6) y7 (fun s8 => tw_T G l o ad h d mX3_newNames (tw_qv G o ad h K) 93 [some (.ref o), some (.int x1), some (.int x2), some (.int x3), none, some (.int x5), some (.int (x6 + (1 : Int32)))] [] s8)))) : tw_T G l o ad h d mX3_newNames (tw_qv G o ad h K) 93 [some (.ref o), some (.int x1), some (.int x2), some (.int x3), none, some (.int x5), some (.int x6)] [] s := by
  refine wq_iload (pc := 93) dX3_newNames_93 rfl ?_
  refine wq_aload_n (pc := 95) dX3_newNames_95 rfl rfl ?_
  refine tg8 (pc := 96) rfl dX3_newNames_96 ?_
  refine wq_icmp_ge (pc := 99) (tgt := 132) dX3_newNames_99 rfl (fun c => ?_) (fun c => ?_)
  · have V := V.1 c
    refine wq_aload_n (pc := 132) dX3_newNames_132 rfl rfl ?_
    refine tg16 (pc := 133) rfl dX3_newNames_133 ?_
    refine wq_sipush (pc := 136) dX3_newNames_136 csts211 ?_
    refine wq_iload (pc := 139) dX3_newNames_139 rfl ?_
    refine wq_iadd (pc := 141) dX3_newNames_141 ?_
    refine wq_aload_n (pc := 142) dX3_newNames_142 rfl rfl ?_
    refine tg8 (pc := 143) rfl dX3_newNames_143 ?_
    refine tw_iast' (pc := 146) ok mia16 dX3_newNames_146 V (fun s1 V => ?_)
    refine wq_aload_n (pc := 147) dX3_newNames_147 rfl rfl ?_
    refine tg16 (pc := 148) rfl dX3_newNames_148 ?_
    refine wq_iload_n (pc := 151) dX3_newNames_151 rfl rfl ?_
    refine wq_dup2 (pc := 152) dX3_newNames_152 rfl rfl ?_
    refine tw_iald' (pc := 153) ok mia16 dX3_newNames_153 V (fun y2 V => ?_)
    refine wq_iconst (pc := 154) dX3_newNames_154 csti1 ?_
    refine wq_iadd (pc := 155) dX3_newNames_155 ?_
    refine tw_iast' (pc := 156) ok mia16 dX3_newNames_156 V (fun s3 V => ?_)
    refine wq_aload_n (pc := 157) dX3_newNames_157 rfl rfl ?_
    refine tcq1847 (pc := 158) (As := []) (st := []) rfl dX3_newNames_158 rfl (Nat.le_of_ble_eq_true rfl) V (tw_kv (fun s4 V => ?_))
    refine wq_aload_n (pc := 161) dX3_newNames_161 rfl rfl ?_
    refine tcq1932 (pc := 162) (As := []) (st := []) rfl dX3_newNames_162 rfl (Nat.le_of_ble_eq_true rfl) V (tw_ki (fun y6 s5 V => ?_))
    refine wq_istore (L' := [some (.ref o), some (.int x1), some (.int x2), some (.int x3), some (.int y6), some (.int x5), some (.int x6)]) (pc := 165) dX3_newNames_165 (Nat.le_of_ble_eq_true rfl) rfl ?_
    refine wq_goto (pc := 167) (tgt := 14) dX3_newNames_167 rfl ?_
    exact wq_T.less V ⟨rfl, ⟨rfl, ⟨rfl, ⟨rfl, ⟨rfl, trivial⟩⟩⟩⟩⟩
  · have V := V.2 c
    refine wq_aload_n (pc := 102) dX3_newNames_102 rfl rfl ?_
    refine tg16 (pc := 103) rfl dX3_newNames_103 ?_
    refine wq_sipush (pc := 106) dX3_newNames_106 csts226 ?_
    refine wq_bipush (pc := 109) dX3_newNames_109 cstb8 ?_
    refine wq_iload (pc := 111) dX3_newNames_111 rfl ?_
    refine wq_imul (pc := 113) dX3_newNames_113 ?_
    refine wq_iadd (pc := 114) dX3_newNames_114 ?_
    refine wq_iload (pc := 115) dX3_newNames_115 rfl ?_
    refine wq_iadd (pc := 117) dX3_newNames_117 ?_
    refine wq_aload_n (pc := 118) dX3_newNames_118 rfl rfl ?_
    refine tg12 (pc := 119) rfl dX3_newNames_119 ?_
    refine wq_iload (pc := 122) dX3_newNames_122 rfl ?_
    refine tw_iald' (pc := 124) ok mia12 dX3_newNames_124 V (fun y7 V => ?_)
    refine tw_iast' (pc := 125) ok mia16 dX3_newNames_125 V (fun s8 V => ?_)
    refine wq_iinc (L' := [some (.ref o), some (.int x1), some (.int x2), some (.int x3), none, some (.int x5), some (.int (x6 + (1 : Int32)))]) (pc := 126) dX3_newNames_126 rfl (by rw [csti1]) (Nat.le_of_ble_eq_true rfl) rfl ?_
    refine wq_goto (pc := 129) (tgt := 93) dX3_newNames_129 rfl ?_
    exact V
theorem vX3_mustName_0 {G : wq_G} {l : Launch} {o : Nat} {ad : Nat → Nat} {h : wq_H} {d : Nat} {K : tw_S → Prop} (ok : tw_ok G o ad)   {s : tw_S} (V : tw_ci G l o ad h d mX3_isWord [.ref o, .ref (G.2.2.2.2 13)] s (fun y2 s1 => (¬ y2 = 0 → tw_T G l o ad h d mX3_mustName (tw_qv G o ad h K) 68 [some (.ref o), none] [.int (1 : Int32)] s1) ∧ (y2 = 0 → tw_ci G l o ad h d mX3_isWord [.ref o, .ref (G.2.2.2.2 15)] s1 (fun y4 s3 => (¬ y4 = 0 → tw_T G l o ad h d mX3_mustName (tw_qv G o ad h K) 68 [some (.ref o), none] [.int (1 : Int32)] s3) ∧ (y4 = 0 → tw_ci G l o ad h d mX3_isWord [.ref o, .ref (G.2.2.2.2 18)] s3 (fun y6 s5 => (¬ y6 = 0 → tw_T G l o ad h d mX3_mustName (tw_qv G o ad h K) 68 [some (.ref o), none] [.int (1 : Int32)] s5) ∧ (y6 = 0 → tw_ci G l o ad h d mX3_isWord [.ref o, .ref (G.2.2.2.2 21)] s5 (fun y8 s7 => (¬ y8 = 0 → tw_T G l o ad h d mX3_mustName (tw_qv G o ad h K) 68 [some (.ref o), none] [.int (1 : Int32)] s7) ∧ (y8 = 0 → tw_ci G l o ad h d mX3_isWord [.ref o, .ref (G.2.2.2.2 14)] s7 (fun y10 s9 => (¬ y10 = 0 → tw_T G l o ad h d mX3_mustName (tw_qv G o ad h K) 68 [some (.ref o), none] [.int (1 : Int32)] s9) ∧ (y10 = 0 → tw_ci G l o ad h d mX3_isWord [.ref o, .ref (G.2.2.2.2 19)] s9 (fun y12 s11 => (¬ y12 = 0 → tw_T G l o ad h d mX3_mustName (tw_qv G o ad h K) 68 [some (.ref o), none] [.int (1 : Int32)] s11) ∧ (y12 = 0 → tw_ci G l o ad h d mX3_isWord [.ref o, .ref (G.2.2.2.2 20)] s11 (fun y14 s13 => (y14 = 0 → tw_T G l o ad h d mX3_mustName (tw_qv G o ad h K) 68 [some (.ref o), none] [.int (0 : Int32)] s13) ∧ (¬ y14 = 0 → tw_T G l o ad h d mX3_mustName (tw_qv G o ad h K) 68 [some (.ref o), none] [.int (1 : Int32)] s13))))))))))))))) : tw_T G l o ad h d mX3_mustName (tw_qv G o ad h K) 0 [some (.ref o), none] [] s := by
  refine wq_aload_n (pc := 0) dX3_mustName_0 rfl rfl ?_
  refine wq_ldcS (a := G.2.2.2.2 13) (pc := 1) (mstr_X3_138 G) dX3_mustName_1 ?_
  refine tcq1870 (pc := 3) (As := [.ref (G.2.2.2.2 13)]) (st := []) rfl dX3_mustName_3 rfl (Nat.le_of_ble_eq_true rfl) V (tw_ki (fun y2 s1 V => ?_))
  refine wq_if_ne (pc := 6) (tgt := 63) dX3_mustName_6 rfl (fun c => ?_) (fun c => ?_)
  · have V := V.1 c
    refine wq_iconst (pc := 63) dX3_mustName_63 csti1 ?_
    refine wq_goto (pc := 64) (tgt := 68) dX3_mustName_64 rfl ?_
    exact V
  · have V := V.2 c
    refine wq_aload_n (pc := 9) dX3_mustName_9 rfl rfl ?_
    refine wq_ldcS (a := G.2.2.2.2 15) (pc := 10) (mstr_X3_140 G) dX3_mustName_10 ?_
    refine tcq1870 (pc := 12) (As := [.ref (G.2.2.2.2 15)]) (st := []) rfl dX3_mustName_12 rfl (Nat.le_of_ble_eq_true rfl) V (tw_ki (fun y4 s3 V => ?_))
    refine wq_if_ne (pc := 15) (tgt := 63) dX3_mustName_15 rfl (fun c => ?_) (fun c => ?_)
    · have V := V.1 c
      refine wq_iconst (pc := 63) dX3_mustName_63 csti1 ?_
      refine wq_goto (pc := 64) (tgt := 68) dX3_mustName_64 rfl ?_
      exact V
    · have V := V.2 c
      refine wq_aload_n (pc := 18) dX3_mustName_18 rfl rfl ?_
      refine wq_ldcS (a := G.2.2.2.2 18) (pc := 19) (mstr_X3_142 G) dX3_mustName_19 ?_
      refine tcq1870 (pc := 21) (As := [.ref (G.2.2.2.2 18)]) (st := []) rfl dX3_mustName_21 rfl (Nat.le_of_ble_eq_true rfl) V (tw_ki (fun y6 s5 V => ?_))
      refine wq_if_ne (pc := 24) (tgt := 63) dX3_mustName_24 rfl (fun c => ?_) (fun c => ?_)
      · have V := V.1 c
        refine wq_iconst (pc := 63) dX3_mustName_63 csti1 ?_
        refine wq_goto (pc := 64) (tgt := 68) dX3_mustName_64 rfl ?_
        exact V
      · have V := V.2 c
        refine wq_aload_n (pc := 27) dX3_mustName_27 rfl rfl ?_
        refine wq_ldcS (a := G.2.2.2.2 21) (pc := 28) (mstr_X3_144 G) dX3_mustName_28 ?_
        refine tcq1870 (pc := 30) (As := [.ref (G.2.2.2.2 21)]) (st := []) rfl dX3_mustName_30 rfl (Nat.le_of_ble_eq_true rfl) V (tw_ki (fun y8 s7 V => ?_))
        refine wq_if_ne (pc := 33) (tgt := 63) dX3_mustName_33 rfl (fun c => ?_) (fun c => ?_)
        · have V := V.1 c
          refine wq_iconst (pc := 63) dX3_mustName_63 csti1 ?_
          refine wq_goto (pc := 64) (tgt := 68) dX3_mustName_64 rfl ?_
          exact V
        · have V := V.2 c
          refine wq_aload_n (pc := 36) dX3_mustName_36 rfl rfl ?_
          refine wq_ldcS (a := G.2.2.2.2 14) (pc := 37) (mstr_X3_146 G) dX3_mustName_37 ?_
          refine tcq1870 (pc := 39) (As := [.ref (G.2.2.2.2 14)]) (st := []) rfl dX3_mustName_39 rfl (Nat.le_of_ble_eq_true rfl) V (tw_ki (fun y10 s9 V => ?_))
          refine wq_if_ne (pc := 42) (tgt := 63) dX3_mustName_42 rfl (fun c => ?_) (fun c => ?_)
          · have V := V.1 c
            refine wq_iconst (pc := 63) dX3_mustName_63 csti1 ?_
            refine wq_goto (pc := 64) (tgt := 68) dX3_mustName_64 rfl ?_
            exact V
          · have V := V.2 c
            refine wq_aload_n (pc := 45) dX3_mustName_45 rfl rfl ?_
            refine wq_ldcS (a := G.2.2.2.2 19) (pc := 46) (mstr_X3_148 G) dX3_mustName_46 ?_
            refine tcq1870 (pc := 48) (As := [.ref (G.2.2.2.2 19)]) (st := []) rfl dX3_mustName_48 rfl (Nat.le_of_ble_eq_true rfl) V (tw_ki (fun y12 s11 V => ?_))
            refine wq_if_ne (pc := 51) (tgt := 63) dX3_mustName_51 rfl (fun c => ?_) (fun c => ?_)
            · have V := V.1 c
              refine wq_iconst (pc := 63) dX3_mustName_63 csti1 ?_
              refine wq_goto (pc := 64) (tgt := 68) dX3_mustName_64 rfl ?_
              exact V
            · have V := V.2 c
              refine wq_aload_n (pc := 54) dX3_mustName_54 rfl rfl ?_
              refine wq_ldcS (a := G.2.2.2.2 20) (pc := 55) (mstr_X3_150 G) dX3_mustName_55 ?_
              refine tcq1870 (pc := 57) (As := [.ref (G.2.2.2.2 20)]) (st := []) rfl dX3_mustName_57 rfl (Nat.le_of_ble_eq_true rfl) V (tw_ki (fun y14 s13 V => ?_))
              refine wq_if_eq (pc := 60) (tgt := 67) dX3_mustName_60 rfl (fun c => ?_) (fun c => ?_)
              · have V := V.1 c
                refine wq_iconst (pc := 67) dX3_mustName_67 csti0 ?_
                exact V
              · have V := V.2 c
                refine wq_iconst (pc := 63) dX3_mustName_63 csti1 ?_
                refine wq_goto (pc := 64) (tgt := 68) dX3_mustName_64 rfl ?_
                exact V
theorem vX3_mustName_68 {G : wq_G} {l : Launch} {o : Nat} {ad : Nat → Nat} {h : wq_H} {d : Nat} {K : tw_S → Prop} (ok : tw_ok G o ad)  {z0 : Int32} {s : tw_S} (V : (¬ (s.1 6) = (2 : Int32) → tw_cv G l o ad h d mX3_wrong [.ref o, .int (1 : Int32), .int (s.1 4)] s (fun s1 => K s1)) ∧ ((s.1 6) = (2 : Int32) → (z0 = 0 → K s) ∧ (¬ z0 = 0 → tw_cv G l o ad h d mX3_wrong [.ref o, .int (1 : Int32), .int (s.1 4)] s (fun s2 => K s2)))) : tw_T G l o ad h d mX3_mustName (tw_qv G o ad h K) 68 [some (.ref o), none] [.int z0] s := by
  refine wq_istore_n (L' := [some (.ref o), some (.int z0)]) (pc := 68) dX3_mustName_68 rfl (Nat.le_of_ble_eq_true rfl) rfl ?_
  refine wq_aload_n (pc := 69) dX3_mustName_69 rfl rfl ?_
  refine tg6 (pc := 70) rfl dX3_mustName_70 ?_
  refine wq_iconst (pc := 73) dX3_mustName_73 csti2 ?_
  refine wq_icmp_ne (pc := 74) (tgt := 81) dX3_mustName_74 rfl (fun c => ?_) (fun c => ?_)
  · have V := V.1 c
    refine wq_aload_n (pc := 81) dX3_mustName_81 rfl rfl ?_
    refine wq_iconst (pc := 82) dX3_mustName_82 csti1 ?_
    refine wq_aload_n (pc := 83) dX3_mustName_83 rfl rfl ?_
    refine tg4 (pc := 84) rfl dX3_mustName_84 ?_
    refine tcq1893 (pc := 87) (As := [.int (1 : Int32), .int (s.1 4)]) (st := []) rfl dX3_mustName_87 rfl (Nat.le_of_ble_eq_true rfl) V (tw_kv (fun s1 V => ?_))
    refine wq_vret (pc := 90) dX3_mustName_90 rfl ⟨_, rfl, rfl, V⟩
  · have V := V.2 c
    refine wq_iload_n (pc := 77) dX3_mustName_77 rfl rfl ?_
    refine wq_if_eq (pc := 78) (tgt := 90) dX3_mustName_78 rfl (fun c => ?_) (fun c => ?_)
    · have V := V.1 c
      refine wq_vret (pc := 90) dX3_mustName_90 rfl ⟨_, rfl, rfl, V⟩
    · have V := V.2 c
      refine wq_aload_n (pc := 81) dX3_mustName_81 rfl rfl ?_
      refine wq_iconst (pc := 82) dX3_mustName_82 csti1 ?_
      refine wq_aload_n (pc := 83) dX3_mustName_83 rfl rfl ?_
      refine tg4 (pc := 84) rfl dX3_mustName_84 ?_
      refine tcq1893 (pc := 87) (As := [.int (1 : Int32), .int (s.1 4)]) (st := []) rfl dX3_mustName_87 rfl (Nat.le_of_ble_eq_true rfl) V (tw_kv (fun s2 V => ?_))
      refine wq_vret (pc := 90) dX3_mustName_90 rfl ⟨_, rfl, rfl, V⟩
theorem vX3_find_0 {G : wq_G} {l : Launch} {o : Nat} {ad : Nat → Nat} {h : wq_H} {d : Nat} {K : Int32 → tw_S → Prop} (ok : tw_ok G o ad)   {s : tw_S} (V : tw_T G l o ad h d mX3_find (tw_qi G o ad h K) 2 [some (.ref o), some (.int (0 : Int32)), none, none] [] s) : tw_T G l o ad h d mX3_find (tw_qi G o ad h K) 0 [some (.ref o), none, none, none] [] s := by
  refine wq_iconst (pc := 0) dX3_find_0 csti0 ?_
  refine wq_istore_n (L' := [some (.ref o), some (.int (0 : Int32)), none, none]) (pc := 1) dX3_find_1 rfl (Nat.le_of_ble_eq_true rfl) rfl ?_
  exact V
theorem vX3_find_2 {G : wq_G} {l : Launch} {o : Nat} {ad : Nat → Nat} {h : wq_H} {d : Nat} {K : Int32 → tw_S → Prop} (ok : tw_ok G o ad)  {x1 : Int32} {s : tw_S} (V : ((15 : Int32) ≤ x1 → K (-1 : Int32) s) ∧ (¬ (15 : Int32) ≤ x1 → tw_ld s 16 ((211 : Int32) + x1) (fun y1 => (y1 ≤ 0 → tw_T G l o ad h d mX3_find (tw_qi G o ad h K) 46 [some (.ref o), some (.int x1), some (.int (0 : Int32)), some (.int (0 : Int32))] [] s) ∧ (¬ y1 ≤ 0 → tw_ld s 16 ((211 : Int32) + x1) (fun y2 => (¬ y2 = (s.1 8) → tw_T G l o ad h d mX3_find (tw_qi G o ad h K) 46 [some (.ref o), some (.int x1), some (.int (0 : Int32)), some (.int (0 : Int32))] [] s) ∧ (y2 = (s.1 8) → tw_T G l o ad h d mX3_find (tw_qi G o ad h K) 46 [some (.ref o), some (.int x1), some (.int (1 : Int32)), some (.int (0 : Int32))] [] s)))))) : tw_T G l o ad h d mX3_find (tw_qi G o ad h K) 2 [some (.ref o), some (.int x1), none, none] [] s := by
  refine wq_iload_n (pc := 2) dX3_find_2 rfl rfl ?_
  refine wq_bipush (pc := 3) dX3_find_3 cstb15 ?_
  refine wq_icmp_ge (pc := 5) (tgt := 106) dX3_find_5 rfl (fun c => ?_) (fun c => ?_)
  · have V := V.1 c
    refine wq_iconst (pc := 106) dX3_find_106 cstim1 ?_
    refine wq_iret (pc := 107) dX3_find_107 rfl ⟨_, _, rfl, rfl, V⟩
  · have V := V.2 c
    refine wq_aload_n (pc := 8) dX3_find_8 rfl rfl ?_
    refine tg16 (pc := 9) rfl dX3_find_9 ?_
    refine wq_sipush (pc := 12) dX3_find_12 csts211 ?_
    refine wq_iload_n (pc := 15) dX3_find_15 rfl rfl ?_
    refine wq_iadd (pc := 16) dX3_find_16 ?_
    refine tw_iald' (pc := 17) ok mia16 dX3_find_17 V (fun y1 V => ?_)
    refine wq_if_le (pc := 18) (tgt := 42) dX3_find_18 rfl (fun c => ?_) (fun c => ?_)
    · have V := V.1 c
      refine wq_iconst (pc := 42) dX3_find_42 csti0 ?_
      refine wq_istore_n (L' := [some (.ref o), some (.int x1), some (.int (0 : Int32)), none]) (pc := 43) dX3_find_43 rfl (Nat.le_of_ble_eq_true rfl) rfl ?_
      refine wq_iconst (pc := 44) dX3_find_44 csti0 ?_
      refine wq_istore_n (L' := [some (.ref o), some (.int x1), some (.int (0 : Int32)), some (.int (0 : Int32))]) (pc := 45) dX3_find_45 rfl (Nat.le_of_ble_eq_true rfl) rfl ?_
      exact V
    · have V := V.2 c
      refine wq_aload_n (pc := 21) dX3_find_21 rfl rfl ?_
      refine tg16 (pc := 22) rfl dX3_find_22 ?_
      refine wq_sipush (pc := 25) dX3_find_25 csts211 ?_
      refine wq_iload_n (pc := 28) dX3_find_28 rfl rfl ?_
      refine wq_iadd (pc := 29) dX3_find_29 ?_
      refine tw_iald' (pc := 30) ok mia16 dX3_find_30 V (fun y2 V => ?_)
      refine wq_aload_n (pc := 31) dX3_find_31 rfl rfl ?_
      refine tg8 (pc := 32) rfl dX3_find_32 ?_
      refine wq_icmp_ne (pc := 35) (tgt := 42) dX3_find_35 rfl (fun c => ?_) (fun c => ?_)
      · have V := V.1 c
        refine wq_iconst (pc := 42) dX3_find_42 csti0 ?_
        refine wq_istore_n (L' := [some (.ref o), some (.int x1), some (.int (0 : Int32)), none]) (pc := 43) dX3_find_43 rfl (Nat.le_of_ble_eq_true rfl) rfl ?_
        refine wq_iconst (pc := 44) dX3_find_44 csti0 ?_
        refine wq_istore_n (L' := [some (.ref o), some (.int x1), some (.int (0 : Int32)), some (.int (0 : Int32))]) (pc := 45) dX3_find_45 rfl (Nat.le_of_ble_eq_true rfl) rfl ?_
        exact V
      · have V := V.2 c
        refine wq_iconst (pc := 38) dX3_find_38 csti1 ?_
        refine wq_goto (pc := 39) (tgt := 43) dX3_find_39 rfl ?_
        refine wq_istore_n (L' := [some (.ref o), some (.int x1), some (.int (1 : Int32)), none]) (pc := 43) dX3_find_43 rfl (Nat.le_of_ble_eq_true rfl) rfl ?_
        refine wq_iconst (pc := 44) dX3_find_44 csti0 ?_
        refine wq_istore_n (L' := [some (.ref o), some (.int x1), some (.int (1 : Int32)), some (.int (0 : Int32))]) (pc := 45) dX3_find_45 rfl (Nat.le_of_ble_eq_true rfl) rfl ?_
        exact V
theorem vX3_find_46 {G : wq_G} {l : Launch} {o : Nat} {ad : Nat → Nat} {h : wq_H} {d : Nat} {K : Int32 → tw_S → Prop} (ok : tw_ok G o ad)  {x1 : Int32} {x2 : Int32} {x3 : Int32} {s : tw_S} (V : ((s.1 8) ≤ x3 → (x2 = 0 → tw_T G l o ad h d mX3_find (tw_qi G o ad h K) 2 [some (.ref o), some (.int (x1 + (1 : Int32))), none, none] [] s) ∧ (¬ x2 = 0 → K x1 s)) ∧ (¬ (s.1 8) ≤ x3 → (x2 = 0 → (x2 = 0 → tw_T G l o ad h d mX3_find (tw_qi G o ad h K) 2 [some (.ref o), some (.int (x1 + (1 : Int32))), none, none] [] s) ∧ (¬ x2 = 0 → K x1 s)) ∧ (¬ x2 = 0 → tw_ld s 16 (((226 : Int32) + ((8 : Int32) * x1)) + x3) (fun y1 => tw_ld s 12 x3 (fun y2 => (¬ y1 = y2 → tw_T G l o ad h d mX3_find (tw_qi G o ad h K) 46 [some (.ref o), some (.int x1), some (.int (0 : Int32)), some (.int (x3 + (1 : Int32)))] [] s) ∧ (y1 = y2 → tw_T G l o ad h d mX3_find (tw_qi G o ad h K) 46 [some (.ref o), some (.int x1), some (.int (1 : Int32)), some (.int (x3 + (1 : Int32)))] [] s)))))) : tw_T G l o ad h d mX3_find (tw_qi G o ad h K) 46 [some (.ref o), some (.int x1), some (.int x2), some (.int x3)] [] s := by
  refine wq_iload_n (pc := 46) dX3_find_46 rfl rfl ?_
  refine wq_aload_n (pc := 47) dX3_find_47 rfl rfl ?_
  refine tg8 (pc := 48) rfl dX3_find_48 ?_
  refine wq_icmp_ge (pc := 51) (tgt := 94) dX3_find_51 rfl (fun c => ?_) (fun c => ?_)
  · have V := V.1 c
    refine wq_iload_n (pc := 94) dX3_find_94 rfl rfl ?_
    refine wq_if_eq (pc := 95) (tgt := 100) dX3_find_95 rfl (fun c => ?_) (fun c => ?_)
    · have V := V.1 c
      refine wq_iinc (L' := [some (.ref o), some (.int (x1 + (1 : Int32))), some (.int x2), some (.int x3)]) (pc := 100) dX3_find_100 rfl (by rw [csti1]) (Nat.le_of_ble_eq_true rfl) rfl ?_
      refine wq_goto (pc := 103) (tgt := 2) dX3_find_103 rfl ?_
      exact wq_T.less V ⟨rfl, ⟨rfl, trivial⟩⟩
    · have V := V.2 c
      refine wq_iload_n (pc := 98) dX3_find_98 rfl rfl ?_
      refine wq_iret (pc := 99) dX3_find_99 rfl ⟨_, _, rfl, rfl, V⟩
  · have V := V.2 c
    refine wq_iload_n (pc := 54) dX3_find_54 rfl rfl ?_
    refine wq_if_eq (pc := 55) (tgt := 94) dX3_find_55 rfl (fun c => ?_) (fun c => ?_)
    · have V := V.1 c
      refine wq_iload_n (pc := 94) dX3_find_94 rfl rfl ?_
      refine wq_if_eq (pc := 95) (tgt := 100) dX3_find_95 rfl (fun c => ?_) (fun c => ?_)
      · have V := V.1 c
        refine wq_iinc (L' := [some (.ref o), some (.int (x1 + (1 : Int32))), some (.int x2), some (.int x3)]) (pc := 100) dX3_find_100 rfl (by rw [csti1]) (Nat.le_of_ble_eq_true rfl) rfl ?_
        refine wq_goto (pc := 103) (tgt := 2) dX3_find_103 rfl ?_
        exact wq_T.less V ⟨rfl, ⟨rfl, trivial⟩⟩
      · have V := V.2 c
        refine wq_iload_n (pc := 98) dX3_find_98 rfl rfl ?_
        refine wq_iret (pc := 99) dX3_find_99 rfl ⟨_, _, rfl, rfl, V⟩
    · have V := V.2 c
      refine wq_aload_n (pc := 58) dX3_find_58 rfl rfl ?_
      refine tg16 (pc := 59) rfl dX3_find_59 ?_
      refine wq_sipush (pc := 62) dX3_find_62 csts226 ?_
      refine wq_bipush (pc := 65) dX3_find_65 cstb8 ?_
      refine wq_iload_n (pc := 67) dX3_find_67 rfl rfl ?_
      refine wq_imul (pc := 68) dX3_find_68 ?_
      refine wq_iadd (pc := 69) dX3_find_69 ?_
      refine wq_iload_n (pc := 70) dX3_find_70 rfl rfl ?_
      refine wq_iadd (pc := 71) dX3_find_71 ?_
      refine tw_iald' (pc := 72) ok mia16 dX3_find_72 V (fun y1 V => ?_)
      refine wq_aload_n (pc := 73) dX3_find_73 rfl rfl ?_
      refine tg12 (pc := 74) rfl dX3_find_74 ?_
      refine wq_iload_n (pc := 77) dX3_find_77 rfl rfl ?_
      refine tw_iald' (pc := 78) ok mia12 dX3_find_78 V (fun y2 V => ?_)
      refine wq_icmp_ne (pc := 79) (tgt := 86) dX3_find_79 rfl (fun c => ?_) (fun c => ?_)
      · have V := V.1 c
        refine wq_iconst (pc := 86) dX3_find_86 csti0 ?_
        refine wq_istore_n (L' := [some (.ref o), some (.int x1), some (.int (0 : Int32)), some (.int x3)]) (pc := 87) dX3_find_87 rfl (Nat.le_of_ble_eq_true rfl) rfl ?_
        refine wq_iinc (L' := [some (.ref o), some (.int x1), some (.int (0 : Int32)), some (.int (x3 + (1 : Int32)))]) (pc := 88) dX3_find_88 rfl (by rw [csti1]) (Nat.le_of_ble_eq_true rfl) rfl ?_
        refine wq_goto (pc := 91) (tgt := 46) dX3_find_91 rfl ?_
        exact V
      · have V := V.2 c
        refine wq_iconst (pc := 82) dX3_find_82 csti1 ?_
        refine wq_goto (pc := 83) (tgt := 87) dX3_find_83 rfl ?_
        refine wq_istore_n (L' := [some (.ref o), some (.int x1), some (.int (1 : Int32)), some (.int x3)]) (pc := 87) dX3_find_87 rfl (Nat.le_of_ble_eq_true rfl) rfl ?_
        refine wq_iinc (L' := [some (.ref o), some (.int x1), some (.int (1 : Int32)), some (.int (x3 + (1 : Int32)))]) (pc := 88) dX3_find_88 rfl (by rw [csti1]) (Nat.le_of_ble_eq_true rfl) rfl ?_
        refine wq_goto (pc := 91) (tgt := 46) dX3_find_91 rfl ?_
        exact V
theorem vX3_comma_0 {G : wq_G} {l : Launch} {o : Nat} {ad : Nat → Nat} {h : wq_H} {d : Nat} {K : Int32 → tw_S → Prop} (ok : tw_ok G o ad)   {s : tw_S} (V : (¬ (s.1 13) = 0 → K (0 : Int32) s) ∧ ((s.1 13) = 0 → ((s.1 6) = (44 : Int32) → tw_cv G l o ad h d mX3_next [.ref o] s (fun s1 => K (1 : Int32) s1)) ∧ (¬ (s.1 6) = (44 : Int32) → K (0 : Int32) s))) : tw_T G l o ad h d mX3_comma (tw_qi G o ad h K) 0 [some (.ref o)] [] s := by
  refine wq_aload_n (pc := 0) dX3_comma_0 rfl rfl ?_
  refine tg13 (pc := 1) rfl dX3_comma_1 ?_
  refine wq_if_ne (pc := 4) (tgt := 16) dX3_comma_4 rfl (fun c => ?_) (fun c => ?_)
  · have V := V.1 c
    refine wq_iconst (pc := 16) dX3_comma_16 csti0 ?_
    refine wq_zret (pc := 17) dX3_comma_17 rfl tw_nb0 ⟨_, _, rfl, rfl, V⟩
  · have V := V.2 c
    refine wq_aload_n (pc := 7) dX3_comma_7 rfl rfl ?_
    refine tg6 (pc := 8) rfl dX3_comma_8 ?_
    refine wq_bipush (pc := 11) dX3_comma_11 cstb44 ?_
    refine wq_icmp_eq (pc := 13) (tgt := 18) dX3_comma_13 rfl (fun c => ?_) (fun c => ?_)
    · have V := V.1 c
      refine wq_aload_n (pc := 18) dX3_comma_18 rfl rfl ?_
      refine tcq1847 (pc := 19) (As := []) (st := []) rfl dX3_comma_19 rfl (Nat.le_of_ble_eq_true rfl) V (tw_kv (fun s1 V => ?_))
      refine wq_iconst (pc := 22) dX3_comma_22 csti1 ?_
      refine wq_zret (pc := 23) dX3_comma_23 rfl tw_nb1 ⟨_, _, rfl, rfl, V⟩
    · have V := V.2 c
      refine wq_iconst (pc := 16) dX3_comma_16 csti0 ?_
      refine wq_zret (pc := 17) dX3_comma_17 rfl tw_nb0 ⟨_, _, rfl, rfl, V⟩
theorem vX3_setLine_0 {G : wq_G} {l : Launch} {o : Nat} {ad : Nat → Nat} {h : wq_H} {d : Nat} {K : tw_S → Prop} (ok : tw_ok G o ad)   {s : tw_S} (V : tw_ld s 16 (0 : Int32) (fun y1 => (¬ y1 = (8 : Int32) → tw_ld s 16 (49 : Int32) (fun y2 => (¬ y2 = 0 → tw_T G l o ad h d mX3_setLine (tw_qv G o ad h K) 40 [some (.ref o), none, none, none, none, none, none, none] [] s) ∧ (y2 = 0 → tw_cv G l o ad h d mX3_wrong [.ref o, .int (6 : Int32), .int (s.1 4)] s (fun s3 => tw_T G l o ad h d mX3_setLine (tw_qv G o ad h K) 40 [some (.ref o), none, none, none, none, none, none, none] [] s3)))) ∧ (y1 = (8 : Int32) → tw_cv G l o ad h d mX3_wrong [.ref o, .int (5 : Int32), .int (s.1 4)] s (fun s4 => tw_ld s4 16 (49 : Int32) (fun y5 => (¬ y5 = 0 → tw_T G l o ad h d mX3_setLine (tw_qv G o ad h K) 40 [some (.ref o), none, none, none, none, none, none, none] [] s4) ∧ (y5 = 0 → tw_cv G l o ad h d mX3_wrong [.ref o, .int (6 : Int32), .int (s4.1 4)] s4 (fun s6 => tw_T G l o ad h d mX3_setLine (tw_qv G o ad h K) 40 [some (.ref o), none, none, none, none, none, none, none] [] s6))))))) : tw_T G l o ad h d mX3_setLine (tw_qv G o ad h K) 0 [some (.ref o), none, none, none, none, none, none, none] [] s := by
  refine wq_aload_n (pc := 0) dX3_setLine_0 rfl rfl ?_
  refine tg16 (pc := 1) rfl dX3_setLine_1 ?_
  refine wq_iconst (pc := 4) dX3_setLine_4 csti0 ?_
  refine tw_iald' (pc := 5) ok mia16 dX3_setLine_5 V (fun y1 V => ?_)
  refine wq_bipush (pc := 6) dX3_setLine_6 cstb8 ?_
  refine wq_icmp_ne (pc := 8) (tgt := 20) dX3_setLine_8 rfl (fun c => ?_) (fun c => ?_)
  · have V := V.1 c
    refine wq_aload_n (pc := 20) dX3_setLine_20 rfl rfl ?_
    refine tg16 (pc := 21) rfl dX3_setLine_21 ?_
    refine wq_bipush (pc := 24) dX3_setLine_24 cstb49 ?_
    refine tw_iald' (pc := 26) ok mia16 dX3_setLine_26 V (fun y2 V => ?_)
    refine wq_if_ne (pc := 27) (tgt := 40) dX3_setLine_27 rfl (fun c => ?_) (fun c => ?_)
    · have V := V.1 c
      exact V
    · have V := V.2 c
      refine wq_aload_n (pc := 30) dX3_setLine_30 rfl rfl ?_
      refine wq_bipush (pc := 31) dX3_setLine_31 cstb6 ?_
      refine wq_aload_n (pc := 33) dX3_setLine_33 rfl rfl ?_
      refine tg4 (pc := 34) rfl dX3_setLine_34 ?_
      refine tcq1893 (pc := 37) (As := [.int (6 : Int32), .int (s.1 4)]) (st := []) rfl dX3_setLine_37 rfl (Nat.le_of_ble_eq_true rfl) V (tw_kv (fun s3 V => ?_))
      exact V
  · have V := V.2 c
    refine wq_aload_n (pc := 11) dX3_setLine_11 rfl rfl ?_
    refine wq_iconst (pc := 12) dX3_setLine_12 csti5 ?_
    refine wq_aload_n (pc := 13) dX3_setLine_13 rfl rfl ?_
    refine tg4 (pc := 14) rfl dX3_setLine_14 ?_
    refine tcq1893 (pc := 17) (As := [.int (5 : Int32), .int (s.1 4)]) (st := []) rfl dX3_setLine_17 rfl (Nat.le_of_ble_eq_true rfl) V (tw_kv (fun s4 V => ?_))
    refine wq_aload_n (pc := 20) dX3_setLine_20 rfl rfl ?_
    refine tg16 (pc := 21) rfl dX3_setLine_21 ?_
    refine wq_bipush (pc := 24) dX3_setLine_24 cstb49 ?_
    refine tw_iald' (pc := 26) ok mia16 dX3_setLine_26 V (fun y5 V => ?_)
    refine wq_if_ne (pc := 27) (tgt := 40) dX3_setLine_27 rfl (fun c => ?_) (fun c => ?_)
    · have V := V.1 c
      exact V
    · have V := V.2 c
      refine wq_aload_n (pc := 30) dX3_setLine_30 rfl rfl ?_
      refine wq_bipush (pc := 31) dX3_setLine_31 cstb6 ?_
      refine wq_aload_n (pc := 33) dX3_setLine_33 rfl rfl ?_
      refine tg4 (pc := 34) rfl dX3_setLine_34 ?_
      refine tcq1893 (pc := 37) (As := [.int (6 : Int32), .int (s4.1 4)]) (st := []) rfl dX3_setLine_37 rfl (Nat.le_of_ble_eq_true rfl) V (tw_kv (fun s6 V => ?_))
      exact V
theorem vX3_setLine_40 {G : wq_G} {l : Launch} {o : Nat} {ad : Nat → Nat} {h : wq_H} {d : Nat} {K : tw_S → Prop} (ok : tw_ok G o ad)   {s : tw_S} (V : ((s.1 13) = 0 → tw_cv G l o ad h d mX3_next [.ref o] s (fun s1 => tw_ld s1 16 (0 : Int32) (fun y2 => tw_ci G l o ad h d mX3_passed [.ref o, .int (1 : Int32), .int (0 : Int32)] s1 (fun y4 s3 => tw_st s3 16 ((1 : Int32) + y2) y4 (fun s5 => tw_st s5 16 ((9 : Int32) + y2) (-2 : Int32) (fun s6 => tw_ci G l o ad h d mX3_comma [.ref o] s6 (fun y8 s7 => (y8 = 0 → tw_cv G l o ad h d mX3_pass [.ref o, .ref (G.2.2.2.2 22)] s7 (fun s9 => tw_ld s9 16 ((9 : Int32) + y2) (fun y10 => (¬ y10 = (-2 : Int32) → tw_T G l o ad h d mX3_setLine (tw_qv G o ad h K) 142 [some (.ref o), some (.int y2), none, some (.int (4 : Int32)), some (.int (0 : Int32)), some (.int (0 : Int32)), none, none] [] s9) ∧ (y10 = (-2 : Int32) → tw_T G l o ad h d mX3_setLine (tw_qv G o ad h K) 142 [some (.ref o), some (.int y2), none, some (.int (2 : Int32)), some (.int (0 : Int32)), some (.int (0 : Int32)), none, none] [] s9)))) ∧ (¬ y8 = 0 → tw_ci G l o ad h d mX3_passed [.ref o, .int (1 : Int32), .int ((1 : Int32) <<< (y4 &&& 31))] s7 (fun y12 s11 => tw_st s11 16 ((9 : Int32) + y2) y12 (fun s13 => tw_cv G l o ad h d mX3_pass [.ref o, .ref (G.2.2.2.2 22)] s13 (fun s14 => tw_ld s14 16 ((9 : Int32) + y2) (fun y15 => (¬ y15 = (-2 : Int32) → tw_T G l o ad h d mX3_setLine (tw_qv G o ad h K) 142 [some (.ref o), some (.int y2), none, some (.int (4 : Int32)), some (.int (0 : Int32)), some (.int (0 : Int32)), none, none] [] s14) ∧ (y15 = (-2 : Int32) → tw_T G l o ad h d mX3_setLine (tw_qv G o ad h K) 142 [some (.ref o), some (.int y2), none, some (.int (2 : Int32)), some (.int (0 : Int32)), some (.int (0 : Int32)), none, none] [] s14))))))))))))) ∧ (¬ (s.1 13) = 0 → K s)) : tw_T G l o ad h d mX3_setLine (tw_qv G o ad h K) 40 [some (.ref o), none, none, none, none, none, none, none] [] s := by
  refine wq_aload_n (pc := 40) dX3_setLine_40 rfl rfl ?_
  refine tg13 (pc := 41) rfl dX3_setLine_41 ?_
  refine wq_if_eq (pc := 44) (tgt := 48) dX3_setLine_44 rfl (fun c => ?_) (fun c => ?_)
  · have V := V.1 c
    refine wq_aload_n (pc := 48) dX3_setLine_48 rfl rfl ?_
    refine tcq1847 (pc := 49) (As := []) (st := []) rfl dX3_setLine_49 rfl (Nat.le_of_ble_eq_true rfl) V (tw_kv (fun s1 V => ?_))
    refine wq_aload_n (pc := 52) dX3_setLine_52 rfl rfl ?_
    refine tg16 (pc := 53) rfl dX3_setLine_53 ?_
    refine wq_iconst (pc := 56) dX3_setLine_56 csti0 ?_
    refine tw_iald' (pc := 57) ok mia16 dX3_setLine_57 V (fun y2 V => ?_)
    refine wq_istore_n (L' := [some (.ref o), some (.int y2), none, none, none, none, none, none]) (pc := 58) dX3_setLine_58 rfl (Nat.le_of_ble_eq_true rfl) rfl ?_
    refine wq_aload_n (pc := 59) dX3_setLine_59 rfl rfl ?_
    refine wq_iconst (pc := 60) dX3_setLine_60 csti1 ?_
    refine wq_iconst (pc := 61) dX3_setLine_61 csti0 ?_
    refine tcq1940 (pc := 62) (As := [.int (1 : Int32), .int (0 : Int32)]) (st := []) rfl dX3_setLine_62 rfl (Nat.le_of_ble_eq_true rfl) V (tw_ki (fun y4 s3 V => ?_))
    refine wq_istore_n (L' := [some (.ref o), some (.int y2), some (.int y4), none, none, none, none, none]) (pc := 65) dX3_setLine_65 rfl (Nat.le_of_ble_eq_true rfl) rfl ?_
    refine wq_aload_n (pc := 66) dX3_setLine_66 rfl rfl ?_
    refine tg16 (pc := 67) rfl dX3_setLine_67 ?_
    refine wq_iconst (pc := 70) dX3_setLine_70 csti1 ?_
    refine wq_iload_n (pc := 71) dX3_setLine_71 rfl rfl ?_
    refine wq_iadd (pc := 72) dX3_setLine_72 ?_
    refine wq_iload_n (pc := 73) dX3_setLine_73 rfl rfl ?_
    refine tw_iast' (pc := 74) ok mia16 dX3_setLine_74 V (fun s5 V => ?_)
    refine wq_aload_n (pc := 75) dX3_setLine_75 rfl rfl ?_
    refine tg16 (pc := 76) rfl dX3_setLine_76 ?_
    refine wq_bipush (pc := 79) dX3_setLine_79 cstb9 ?_
    refine wq_iload_n (pc := 81) dX3_setLine_81 rfl rfl ?_
    refine wq_iadd (pc := 82) dX3_setLine_82 ?_
    refine wq_bipush (pc := 83) dX3_setLine_83 cstbm2 ?_
    refine tw_iast' (pc := 85) ok mia16 dX3_setLine_85 V (fun s6 V => ?_)
    refine wq_aload_n (pc := 86) dX3_setLine_86 rfl rfl ?_
    refine tcq1932 (pc := 87) (As := []) (st := []) rfl dX3_setLine_87 rfl (Nat.le_of_ble_eq_true rfl) V (tw_ki (fun y8 s7 V => ?_))
    refine wq_if_eq (pc := 90) (tgt := 110) dX3_setLine_90 rfl (fun c => ?_) (fun c => ?_)
    · have V := V.1 c
      refine wq_aload_n (pc := 110) dX3_setLine_110 rfl rfl ?_
      refine wq_ldcS (a := G.2.2.2.2 22) (pc := 111) (mstr_X3_234 G) dX3_setLine_111 ?_
      refine tcq1902 (pc := 113) (As := [.ref (G.2.2.2.2 22)]) (st := []) rfl dX3_setLine_113 rfl (Nat.le_of_ble_eq_true rfl) V (tw_kv (fun s9 V => ?_))
      refine wq_aload_n (pc := 116) dX3_setLine_116 rfl rfl ?_
      refine tg16 (pc := 117) rfl dX3_setLine_117 ?_
      refine wq_bipush (pc := 120) dX3_setLine_120 cstb9 ?_
      refine wq_iload_n (pc := 122) dX3_setLine_122 rfl rfl ?_
      refine wq_iadd (pc := 123) dX3_setLine_123 ?_
      refine tw_iald' (pc := 124) ok mia16 dX3_setLine_124 V (fun y10 V => ?_)
      refine wq_bipush (pc := 125) dX3_setLine_125 cstbm2 ?_
      refine wq_icmp_ne (pc := 127) (tgt := 134) dX3_setLine_127 rfl (fun c => ?_) (fun c => ?_)
      · have V := V.1 c
        refine wq_iconst (pc := 134) dX3_setLine_134 csti4 ?_
        refine wq_istore_n (L' := [some (.ref o), some (.int y2), some (.int y4), some (.int (4 : Int32)), none, none, none, none]) (pc := 135) dX3_setLine_135 rfl (Nat.le_of_ble_eq_true rfl) rfl ?_
        refine wq_iconst (pc := 136) dX3_setLine_136 csti0 ?_
        refine wq_istore (L' := [some (.ref o), some (.int y2), some (.int y4), some (.int (4 : Int32)), some (.int (0 : Int32)), none, none, none]) (pc := 137) dX3_setLine_137 (Nat.le_of_ble_eq_true rfl) rfl ?_
        refine wq_iconst (pc := 139) dX3_setLine_139 csti0 ?_
        refine wq_istore (L' := [some (.ref o), some (.int y2), some (.int y4), some (.int (4 : Int32)), some (.int (0 : Int32)), some (.int (0 : Int32)), none, none]) (pc := 140) dX3_setLine_140 (Nat.le_of_ble_eq_true rfl) rfl ?_
        exact wq_T.less V ⟨rfl, ⟨rfl, ⟨rfl, ⟨rfl, ⟨rfl, trivial⟩⟩⟩⟩⟩
      · have V := V.2 c
        refine wq_iconst (pc := 130) dX3_setLine_130 csti2 ?_
        refine wq_goto (pc := 131) (tgt := 135) dX3_setLine_131 rfl ?_
        refine wq_istore_n (L' := [some (.ref o), some (.int y2), some (.int y4), some (.int (2 : Int32)), none, none, none, none]) (pc := 135) dX3_setLine_135 rfl (Nat.le_of_ble_eq_true rfl) rfl ?_
        refine wq_iconst (pc := 136) dX3_setLine_136 csti0 ?_
        refine wq_istore (L' := [some (.ref o), some (.int y2), some (.int y4), some (.int (2 : Int32)), some (.int (0 : Int32)), none, none, none]) (pc := 137) dX3_setLine_137 (Nat.le_of_ble_eq_true rfl) rfl ?_
        refine wq_iconst (pc := 139) dX3_setLine_139 csti0 ?_
        refine wq_istore (L' := [some (.ref o), some (.int y2), some (.int y4), some (.int (2 : Int32)), some (.int (0 : Int32)), some (.int (0 : Int32)), none, none]) (pc := 140) dX3_setLine_140 (Nat.le_of_ble_eq_true rfl) rfl ?_
        exact wq_T.less V ⟨rfl, ⟨rfl, ⟨rfl, ⟨rfl, ⟨rfl, trivial⟩⟩⟩⟩⟩
    · have V := V.2 c
      refine wq_aload_n (pc := 93) dX3_setLine_93 rfl rfl ?_
      refine tg16 (pc := 94) rfl dX3_setLine_94 ?_
      refine wq_bipush (pc := 97) dX3_setLine_97 cstb9 ?_
      refine wq_iload_n (pc := 99) dX3_setLine_99 rfl rfl ?_
      refine wq_iadd (pc := 100) dX3_setLine_100 ?_
      refine wq_aload_n (pc := 101) dX3_setLine_101 rfl rfl ?_
      refine wq_iconst (pc := 102) dX3_setLine_102 csti1 ?_
      refine wq_iconst (pc := 103) dX3_setLine_103 csti1 ?_
      refine wq_iload_n (pc := 104) dX3_setLine_104 rfl rfl ?_
      refine wq_ishl (pc := 105) dX3_setLine_105 ?_
      refine tcq1940 (pc := 106) (As := [.int (1 : Int32), .int ((1 : Int32) <<< (y4 &&& 31))]) (st := [.int ((9 : Int32) + y2), .ref (ad 16)]) rfl dX3_setLine_106 rfl (Nat.le_of_ble_eq_true rfl) V (tw_ki (fun y12 s11 V => ?_))
      refine tw_iast' (pc := 109) ok mia16 dX3_setLine_109 V (fun s13 V => ?_)
      refine wq_aload_n (pc := 110) dX3_setLine_110 rfl rfl ?_
      refine wq_ldcS (a := G.2.2.2.2 22) (pc := 111) (mstr_X3_234 G) dX3_setLine_111 ?_
      refine tcq1902 (pc := 113) (As := [.ref (G.2.2.2.2 22)]) (st := []) rfl dX3_setLine_113 rfl (Nat.le_of_ble_eq_true rfl) V (tw_kv (fun s14 V => ?_))
      refine wq_aload_n (pc := 116) dX3_setLine_116 rfl rfl ?_
      refine tg16 (pc := 117) rfl dX3_setLine_117 ?_
      refine wq_bipush (pc := 120) dX3_setLine_120 cstb9 ?_
      refine wq_iload_n (pc := 122) dX3_setLine_122 rfl rfl ?_
      refine wq_iadd (pc := 123) dX3_setLine_123 ?_
      refine tw_iald' (pc := 124) ok mia16 dX3_setLine_124 V (fun y15 V => ?_)
      refine wq_bipush (pc := 125) dX3_setLine_125 cstbm2 ?_
      refine wq_icmp_ne (pc := 127) (tgt := 134) dX3_setLine_127 rfl (fun c => ?_) (fun c => ?_)
      · have V := V.1 c
        refine wq_iconst (pc := 134) dX3_setLine_134 csti4 ?_
        refine wq_istore_n (L' := [some (.ref o), some (.int y2), some (.int y4), some (.int (4 : Int32)), none, none, none, none]) (pc := 135) dX3_setLine_135 rfl (Nat.le_of_ble_eq_true rfl) rfl ?_
        refine wq_iconst (pc := 136) dX3_setLine_136 csti0 ?_
        refine wq_istore (L' := [some (.ref o), some (.int y2), some (.int y4), some (.int (4 : Int32)), some (.int (0 : Int32)), none, none, none]) (pc := 137) dX3_setLine_137 (Nat.le_of_ble_eq_true rfl) rfl ?_
        refine wq_iconst (pc := 139) dX3_setLine_139 csti0 ?_
        refine wq_istore (L' := [some (.ref o), some (.int y2), some (.int y4), some (.int (4 : Int32)), some (.int (0 : Int32)), some (.int (0 : Int32)), none, none]) (pc := 140) dX3_setLine_140 (Nat.le_of_ble_eq_true rfl) rfl ?_
        exact wq_T.less V ⟨rfl, ⟨rfl, ⟨rfl, ⟨rfl, ⟨rfl, trivial⟩⟩⟩⟩⟩
      · have V := V.2 c
        refine wq_iconst (pc := 130) dX3_setLine_130 csti2 ?_
        refine wq_goto (pc := 131) (tgt := 135) dX3_setLine_131 rfl ?_
        refine wq_istore_n (L' := [some (.ref o), some (.int y2), some (.int y4), some (.int (2 : Int32)), none, none, none, none]) (pc := 135) dX3_setLine_135 rfl (Nat.le_of_ble_eq_true rfl) rfl ?_
        refine wq_iconst (pc := 136) dX3_setLine_136 csti0 ?_
        refine wq_istore (L' := [some (.ref o), some (.int y2), some (.int y4), some (.int (2 : Int32)), some (.int (0 : Int32)), none, none, none]) (pc := 137) dX3_setLine_137 (Nat.le_of_ble_eq_true rfl) rfl ?_
        refine wq_iconst (pc := 139) dX3_setLine_139 csti0 ?_
        refine wq_istore (L' := [some (.ref o), some (.int y2), some (.int y4), some (.int (2 : Int32)), some (.int (0 : Int32)), some (.int (0 : Int32)), none, none]) (pc := 140) dX3_setLine_140 (Nat.le_of_ble_eq_true rfl) rfl ?_
        exact wq_T.less V ⟨rfl, ⟨rfl, ⟨rfl, ⟨rfl, ⟨rfl, trivial⟩⟩⟩⟩⟩
  · have V := V.2 c
    refine wq_vret (pc := 47) dX3_setLine_47 rfl ⟨_, rfl, rfl, V⟩
theorem vX3_setLine_142 {G : wq_G} {l : Launch} {o : Nat} {ad : Nat → Nat} {h : wq_H} {d : Nat} {K : tw_S → Prop} (ok : tw_ok G o ad)  {x1 : Int32} {x3 : Int32} {x4 : Int32} {x5 : Int32} {s : tw_S} (V : (x3 ≤ x5 → (¬ (s.1 13) = 0 → K s) ∧ ((s.1 13) = 0 → tw_ld s 16 (0 : Int32) (fun y1 => tw_st s 16 (0 : Int32) (y1 + (1 : Int32)) (fun s2 => K s2)))) ∧ (¬ x3 ≤ x5 → (x5 ≤ 0 → ((s.1 13) = 0 → (¬ x5 = (x3 - (1 : Int32)) → tw_T G l o ad h d mX3_setLine (tw_qv G o ad h K) 199 [some (.ref o), some (.int x1), none, some (.int x3), some (.int x4), some (.int x5), none, none] [.int (0 : Int32)] s) ∧ (x5 = (x3 - (1 : Int32)) → (¬ (s.1 6) = (3 : Int32) → tw_T G l o ad h d mX3_setLine (tw_qv G o ad h K) 199 [some (.ref o), some (.int x1), none, some (.int x3), some (.int x4), some (.int x5), none, none] [.int (0 : Int32)] s) ∧ ((s.1 6) = (3 : Int32) → tw_ci G l o ad h d mX3_within [.int (s.1 7), .int (0 : Int32), .int (60 : Int32)] s (fun y4 s3 => (y4 = 0 → tw_T G l o ad h d mX3_setLine (tw_qv G o ad h K) 199 [some (.ref o), some (.int x1), none, some (.int x3), some (.int x4), some (.int x5), none, none] [.int (0 : Int32)] s3) ∧ (¬ y4 = 0 → tw_T G l o ad h d mX3_setLine (tw_qv G o ad h K) 199 [some (.ref o), some (.int x1), none, some (.int x3), some (.int x4), some (.int x5), none, none] [.int (1 : Int32)] s3))))) ∧ (¬ (s.1 13) = 0 → K s)) ∧ (¬ x5 ≤ 0 → tw_cv G l o ad h d mX3_mustComma [.ref o] s (fun s5 => ((s5.1 13) = 0 → (¬ x5 = (x3 - (1 : Int32)) → tw_T G l o ad h d mX3_setLine (tw_qv G o ad h K) 199 [some (.ref o), some (.int x1), none, some (.int x3), some (.int x4), some (.int x5), none, none] [.int (0 : Int32)] s5) ∧ (x5 = (x3 - (1 : Int32)) → (¬ (s5.1 6) = (3 : Int32) → tw_T G l o ad h d mX3_setLine (tw_qv G o ad h K) 199 [some (.ref o), some (.int x1), none, some (.int x3), some (.int x4), some (.int x5), none, none] [.int (0 : Int32)] s5) ∧ ((s5.1 6) = (3 : Int32) → tw_ci G l o ad h d mX3_within [.int (s5.1 7), .int (0 : Int32), .int (60 : Int32)] s5 (fun y7 s6 => (y7 = 0 → tw_T G l o ad h d mX3_setLine (tw_qv G o ad h K) 199 [some (.ref o), some (.int x1), none, some (.int x3), some (.int x4), some (.int x5), none, none] [.int (0 : Int32)] s6) ∧ (¬ y7 = 0 → tw_T G l o ad h d mX3_setLine (tw_qv G o ad h K) 199 [some (.ref o), some (.int x1), none, some (.int x3), some (.int x4), some (.int x5), none, none] [.int (1 : Int32)] s6))))) ∧ (¬ (s5.1 13) = 0 → K s5))))) : tw_T G l o ad h d mX3_setLine (tw_qv G o ad h K) 142 [some (.ref o), some (.int x1), none, some (.int x3), some (.int x4), some (.int x5), none, none] [] s := by
  refine wq_iload (pc := 142) dX3_setLine_142 rfl ?_
  refine wq_iload_n (pc := 144) dX3_setLine_144 rfl rfl ?_
  refine wq_icmp_ge (pc := 145) (tgt := 270) dX3_setLine_145 rfl (fun c => ?_) (fun c => ?_)
  · have V := V.1 c
    refine wq_aload_n (pc := 270) dX3_setLine_270 rfl rfl ?_
    refine tg13 (pc := 271) rfl dX3_setLine_271 ?_
    refine wq_if_ne (pc := 274) (tgt := 287) dX3_setLine_274 rfl (fun c => ?_) (fun c => ?_)
    · have V := V.1 c
      refine wq_vret (pc := 287) dX3_setLine_287 rfl ⟨_, rfl, rfl, V⟩
    · have V := V.2 c
      refine wq_aload_n (pc := 277) dX3_setLine_277 rfl rfl ?_
      refine tg16 (pc := 278) rfl dX3_setLine_278 ?_
      refine wq_iconst (pc := 281) dX3_setLine_281 csti0 ?_
      refine wq_dup2 (pc := 282) dX3_setLine_282 rfl rfl ?_
      refine tw_iald' (pc := 283) ok mia16 dX3_setLine_283 V (fun y1 V => ?_)
      refine wq_iconst (pc := 284) dX3_setLine_284 csti1 ?_
      refine wq_iadd (pc := 285) dX3_setLine_285 ?_
      refine tw_iast' (pc := 286) ok mia16 dX3_setLine_286 V (fun s2 V => ?_)
      refine wq_vret (pc := 287) dX3_setLine_287 rfl ⟨_, rfl, rfl, V⟩
  · have V := V.2 c
    refine wq_iload (pc := 148) dX3_setLine_148 rfl ?_
    refine wq_if_le (pc := 150) (tgt := 157) dX3_setLine_150 rfl (fun c => ?_) (fun c => ?_)
    · have V := V.1 c
      refine wq_aload_n (pc := 157) dX3_setLine_157 rfl rfl ?_
      refine tg13 (pc := 158) rfl dX3_setLine_158 ?_
      refine wq_if_eq (pc := 161) (tgt := 165) dX3_setLine_161 rfl (fun c => ?_) (fun c => ?_)
      · have V := V.1 c
        refine wq_iload (pc := 165) dX3_setLine_165 rfl ?_
        refine wq_iload_n (pc := 167) dX3_setLine_167 rfl rfl ?_
        refine wq_iconst (pc := 168) dX3_setLine_168 csti1 ?_
        refine wq_isub (pc := 169) dX3_setLine_169 ?_
        refine wq_icmp_ne (pc := 170) (tgt := 198) dX3_setLine_170 rfl (fun c => ?_) (fun c => ?_)
        · have V := V.1 c
          refine wq_iconst (pc := 198) dX3_setLine_198 csti0 ?_
          exact V
        · have V := V.2 c
          refine wq_aload_n (pc := 173) dX3_setLine_173 rfl rfl ?_
          refine tg6 (pc := 174) rfl dX3_setLine_174 ?_
          refine wq_iconst (pc := 177) dX3_setLine_177 csti3 ?_
          refine wq_icmp_ne (pc := 178) (tgt := 198) dX3_setLine_178 rfl (fun c => ?_) (fun c => ?_)
          · have V := V.1 c
            refine wq_iconst (pc := 198) dX3_setLine_198 csti0 ?_
            exact V
          · have V := V.2 c
            refine wq_aload_n (pc := 181) dX3_setLine_181 rfl rfl ?_
            refine tg7 (pc := 182) rfl dX3_setLine_182 ?_
            refine wq_iconst (pc := 185) dX3_setLine_185 csti0 ?_
            refine wq_bipush (pc := 186) dX3_setLine_186 cstb60 ?_
            refine tcq1840 (pc := 188) (As := [.int (s.1 7), .int (0 : Int32), .int (60 : Int32)]) (st := []) rfl dX3_setLine_188 rfl (Nat.le_of_ble_eq_true rfl) V (tw_ki (fun y4 s3 V => ?_))
            refine wq_if_eq (pc := 191) (tgt := 198) dX3_setLine_191 rfl (fun c => ?_) (fun c => ?_)
            · have V := V.1 c
              refine wq_iconst (pc := 198) dX3_setLine_198 csti0 ?_
              exact V
            · have V := V.2 c
              refine wq_iconst (pc := 194) dX3_setLine_194 csti1 ?_
              refine wq_goto (pc := 195) (tgt := 199) dX3_setLine_195 rfl ?_
              exact V
      · have V := V.2 c
        refine wq_vret (pc := 164) dX3_setLine_164 rfl ⟨_, rfl, rfl, V⟩
    · have V := V.2 c
      refine wq_aload_n (pc := 153) dX3_setLine_153 rfl rfl ?_
      refine tcq1952 (pc := 154) (As := []) (st := []) rfl dX3_setLine_154 rfl (Nat.le_of_ble_eq_true rfl) V (tw_kv (fun s5 V => ?_))
      refine wq_aload_n (pc := 157) dX3_setLine_157 rfl rfl ?_
      refine tg13 (pc := 158) rfl dX3_setLine_158 ?_
      refine wq_if_eq (pc := 161) (tgt := 165) dX3_setLine_161 rfl (fun c => ?_) (fun c => ?_)
      · have V := V.1 c
        refine wq_iload (pc := 165) dX3_setLine_165 rfl ?_
        refine wq_iload_n (pc := 167) dX3_setLine_167 rfl rfl ?_
        refine wq_iconst (pc := 168) dX3_setLine_168 csti1 ?_
        refine wq_isub (pc := 169) dX3_setLine_169 ?_
        refine wq_icmp_ne (pc := 170) (tgt := 198) dX3_setLine_170 rfl (fun c => ?_) (fun c => ?_)
        · have V := V.1 c
          refine wq_iconst (pc := 198) dX3_setLine_198 csti0 ?_
          exact V
        · have V := V.2 c
          refine wq_aload_n (pc := 173) dX3_setLine_173 rfl rfl ?_
          refine tg6 (pc := 174) rfl dX3_setLine_174 ?_
          refine wq_iconst (pc := 177) dX3_setLine_177 csti3 ?_
          refine wq_icmp_ne (pc := 178) (tgt := 198) dX3_setLine_178 rfl (fun c => ?_) (fun c => ?_)
          · have V := V.1 c
            refine wq_iconst (pc := 198) dX3_setLine_198 csti0 ?_
            exact V
          · have V := V.2 c
            refine wq_aload_n (pc := 181) dX3_setLine_181 rfl rfl ?_
            refine tg7 (pc := 182) rfl dX3_setLine_182 ?_
            refine wq_iconst (pc := 185) dX3_setLine_185 csti0 ?_
            refine wq_bipush (pc := 186) dX3_setLine_186 cstb60 ?_
            refine tcq1840 (pc := 188) (As := [.int (s5.1 7), .int (0 : Int32), .int (60 : Int32)]) (st := []) rfl dX3_setLine_188 rfl (Nat.le_of_ble_eq_true rfl) V (tw_ki (fun y7 s6 V => ?_))
            refine wq_if_eq (pc := 191) (tgt := 198) dX3_setLine_191 rfl (fun c => ?_) (fun c => ?_)
            · have V := V.1 c
              refine wq_iconst (pc := 198) dX3_setLine_198 csti0 ?_
              exact V
            · have V := V.2 c
              refine wq_iconst (pc := 194) dX3_setLine_194 csti1 ?_
              refine wq_goto (pc := 195) (tgt := 199) dX3_setLine_195 rfl ?_
              exact V
      · have V := V.2 c
        refine wq_vret (pc := 164) dX3_setLine_164 rfl ⟨_, rfl, rfl, V⟩
theorem vX3_setLine_199 {G : wq_G} {l : Launch} {o : Nat} {ad : Nat → Nat} {h : wq_H} {d : Nat} {K : tw_S → Prop} (ok : tw_ok G o ad)  {x1 : Int32} {x3 : Int32} {x4 : Int32} {x5 : Int32} {z0 : Int32} {s : tw_S} (V : (z0 = 0 → tw_ci G l o ad h d mX3_number [.ref o, .int (0 : Int32), .int (60 : Int32)] s (fun y2 s1 => tw_st s1 16 (((17 : Int32) + ((4 : Int32) * x1)) + x5) y2 (fun s3 => tw_T G l o ad h d mX3_setLine (tw_qv G o ad h K) 142 [some (.ref o), some (.int x1), none, some (.int x3), some (.int (x4 + y2)), some (.int (x5 + (1 : Int32))), none, none] [] s3))) ∧ (¬ z0 = 0 → tw_ld s 16 (49 : Int32) (fun y4 => ((x4 + (s.1 7)) = y4 → tw_ci G l o ad h d mX3_number [.ref o, .int (0 : Int32), .int (60 : Int32)] s (fun y6 s5 => tw_st s5 16 (((17 : Int32) + ((4 : Int32) * x1)) + x5) y6 (fun s7 => tw_T G l o ad h d mX3_setLine (tw_qv G o ad h K) 142 [some (.ref o), some (.int x1), none, some (.int x3), some (.int (x4 + y6)), some (.int (x5 + (1 : Int32))), none, none] [] s7))) ∧ (¬ (x4 + (s.1 7)) = y4 → tw_cv G l o ad h d mX3_wrong [.ref o, .int (4 : Int32), .int (s.1 4)] s (fun s8 => tw_ci G l o ad h d mX3_number [.ref o, .int (0 : Int32), .int (60 : Int32)] s8 (fun y10 s9 => tw_st s9 16 (((17 : Int32) + ((4 : Int32) * x1)) + x5) y10 (fun s11 => tw_T G l o ad h d mX3_setLine (tw_qv G o ad h K) 142 [some (.ref o), some (.int x1), none, some (.int x3), some (.int (x4 + y10)), some (.int (x5 + (1 : Int32))), none, none] [] s11))))))) : tw_T G l o ad h d mX3_setLine (tw_qv G o ad h K) 199 [some (.ref o), some (.int x1), none, some (.int x3), some (.int x4), some (.int x5), none, none] [.int z0] s := by
  refine wq_istore (L' := [some (.ref o), some (.int x1), none, some (.int x3), some (.int x4), some (.int x5), some (.int z0), none]) (pc := 199) dX3_setLine_199 (Nat.le_of_ble_eq_true rfl) rfl ?_
  refine wq_iload (pc := 201) dX3_setLine_201 rfl ?_
  refine wq_if_eq (pc := 203) (tgt := 232) dX3_setLine_203 rfl (fun c => ?_) (fun c => ?_)
  · have V := V.1 c
    refine wq_aload_n (pc := 232) dX3_setLine_232 rfl rfl ?_
    refine wq_iconst (pc := 233) dX3_setLine_233 csti0 ?_
    refine wq_bipush (pc := 234) dX3_setLine_234 cstb60 ?_
    refine tcq1910 (pc := 236) (As := [.int (0 : Int32), .int (60 : Int32)]) (st := []) rfl dX3_setLine_236 rfl (Nat.le_of_ble_eq_true rfl) V (tw_ki (fun y2 s1 V => ?_))
    refine wq_istore (L' := [some (.ref o), some (.int x1), none, some (.int x3), some (.int x4), some (.int x5), some (.int z0), some (.int y2)]) (pc := 239) dX3_setLine_239 (Nat.le_of_ble_eq_true rfl) rfl ?_
    refine wq_aload_n (pc := 241) dX3_setLine_241 rfl rfl ?_
    refine tg16 (pc := 242) rfl dX3_setLine_242 ?_
    refine wq_bipush (pc := 245) dX3_setLine_245 cstb17 ?_
    refine wq_iconst (pc := 247) dX3_setLine_247 csti4 ?_
    refine wq_iload_n (pc := 248) dX3_setLine_248 rfl rfl ?_
    refine wq_imul (pc := 249) dX3_setLine_249 ?_
    refine wq_iadd (pc := 250) dX3_setLine_250 ?_
    refine wq_iload (pc := 251) dX3_setLine_251 rfl ?_
    refine wq_iadd (pc := 253) dX3_setLine_253 ?_
    refine wq_iload (pc := 254) dX3_setLine_254 rfl ?_
    refine tw_iast' (pc := 256) ok mia16 dX3_setLine_256 V (fun s3 V => ?_)
    refine wq_iload (pc := 257) dX3_setLine_257 rfl ?_
    refine wq_iload (pc := 259) dX3_setLine_259 rfl ?_
    refine wq_iadd (pc := 261) dX3_setLine_261 ?_
    refine wq_istore (L' := [some (.ref o), some (.int x1), none, some (.int x3), some (.int (x4 + y2)), some (.int x5), some (.int z0), some (.int y2)]) (pc := 262) dX3_setLine_262 (Nat.le_of_ble_eq_true rfl) rfl ?_
    refine wq_iinc (L' := [some (.ref o), some (.int x1), none, some (.int x3), some (.int (x4 + y2)), some (.int (x5 + (1 : Int32))), some (.int z0), some (.int y2)]) (pc := 264) dX3_setLine_264 rfl (by rw [csti1]) (Nat.le_of_ble_eq_true rfl) rfl ?_
    refine wq_goto (pc := 267) (tgt := 142) dX3_setLine_267 rfl ?_
    exact wq_T.less V ⟨rfl, ⟨rfl, ⟨rfl, ⟨rfl, ⟨rfl, trivial⟩⟩⟩⟩⟩
  · have V := V.2 c
    refine wq_iload (pc := 206) dX3_setLine_206 rfl ?_
    refine wq_aload_n (pc := 208) dX3_setLine_208 rfl rfl ?_
    refine tg7 (pc := 209) rfl dX3_setLine_209 ?_
    refine wq_iadd (pc := 212) dX3_setLine_212 ?_
    refine wq_aload_n (pc := 213) dX3_setLine_213 rfl rfl ?_
    refine tg16 (pc := 214) rfl dX3_setLine_214 ?_
    refine wq_bipush (pc := 217) dX3_setLine_217 cstb49 ?_
    refine tw_iald' (pc := 219) ok mia16 dX3_setLine_219 V (fun y4 V => ?_)
    refine wq_icmp_eq (pc := 220) (tgt := 232) dX3_setLine_220 rfl (fun c => ?_) (fun c => ?_)
    · have V := V.1 c
      refine wq_aload_n (pc := 232) dX3_setLine_232 rfl rfl ?_
      refine wq_iconst (pc := 233) dX3_setLine_233 csti0 ?_
      refine wq_bipush (pc := 234) dX3_setLine_234 cstb60 ?_
      refine tcq1910 (pc := 236) (As := [.int (0 : Int32), .int (60 : Int32)]) (st := []) rfl dX3_setLine_236 rfl (Nat.le_of_ble_eq_true rfl) V (tw_ki (fun y6 s5 V => ?_))
      refine wq_istore (L' := [some (.ref o), some (.int x1), none, some (.int x3), some (.int x4), some (.int x5), some (.int z0), some (.int y6)]) (pc := 239) dX3_setLine_239 (Nat.le_of_ble_eq_true rfl) rfl ?_
      refine wq_aload_n (pc := 241) dX3_setLine_241 rfl rfl ?_
      refine tg16 (pc := 242) rfl dX3_setLine_242 ?_
      refine wq_bipush (pc := 245) dX3_setLine_245 cstb17 ?_
      refine wq_iconst (pc := 247) dX3_setLine_247 csti4 ?_
      refine wq_iload_n (pc := 248) dX3_setLine_248 rfl rfl ?_
      refine wq_imul (pc := 249) dX3_setLine_249 ?_
      refine wq_iadd (pc := 250) dX3_setLine_250 ?_
      refine wq_iload (pc := 251) dX3_setLine_251 rfl ?_
      refine wq_iadd (pc := 253) dX3_setLine_253 ?_
      refine wq_iload (pc := 254) dX3_setLine_254 rfl ?_
      refine tw_iast' (pc := 256) ok mia16 dX3_setLine_256 V (fun s7 V => ?_)
      refine wq_iload (pc := 257) dX3_setLine_257 rfl ?_
      refine wq_iload (pc := 259) dX3_setLine_259 rfl ?_
      refine wq_iadd (pc := 261) dX3_setLine_261 ?_
      refine wq_istore (L' := [some (.ref o), some (.int x1), none, some (.int x3), some (.int (x4 + y6)), some (.int x5), some (.int z0), some (.int y6)]) (pc := 262) dX3_setLine_262 (Nat.le_of_ble_eq_true rfl) rfl ?_
      refine wq_iinc (L' := [some (.ref o), some (.int x1), none, some (.int x3), some (.int (x4 + y6)), some (.int (x5 + (1 : Int32))), some (.int z0), some (.int y6)]) (pc := 264) dX3_setLine_264 rfl (by rw [csti1]) (Nat.le_of_ble_eq_true rfl) rfl ?_
      refine wq_goto (pc := 267) (tgt := 142) dX3_setLine_267 rfl ?_
      exact wq_T.less V ⟨rfl, ⟨rfl, ⟨rfl, ⟨rfl, ⟨rfl, trivial⟩⟩⟩⟩⟩
    · have V := V.2 c
      refine wq_aload_n (pc := 223) dX3_setLine_223 rfl rfl ?_
      refine wq_iconst (pc := 224) dX3_setLine_224 csti4 ?_
      refine wq_aload_n (pc := 225) dX3_setLine_225 rfl rfl ?_
      refine tg4 (pc := 226) rfl dX3_setLine_226 ?_
      refine tcq1893 (pc := 229) (As := [.int (4 : Int32), .int (s.1 4)]) (st := []) rfl dX3_setLine_229 rfl (Nat.le_of_ble_eq_true rfl) V (tw_kv (fun s8 V => ?_))
      refine wq_aload_n (pc := 232) dX3_setLine_232 rfl rfl ?_
      refine wq_iconst (pc := 233) dX3_setLine_233 csti0 ?_
      refine wq_bipush (pc := 234) dX3_setLine_234 cstb60 ?_
      refine tcq1910 (pc := 236) (As := [.int (0 : Int32), .int (60 : Int32)]) (st := []) rfl dX3_setLine_236 rfl (Nat.le_of_ble_eq_true rfl) V (tw_ki (fun y10 s9 V => ?_))
      refine wq_istore (L' := [some (.ref o), some (.int x1), none, some (.int x3), some (.int x4), some (.int x5), some (.int z0), some (.int y10)]) (pc := 239) dX3_setLine_239 (Nat.le_of_ble_eq_true rfl) rfl ?_
      refine wq_aload_n (pc := 241) dX3_setLine_241 rfl rfl ?_
      refine tg16 (pc := 242) rfl dX3_setLine_242 ?_
      refine wq_bipush (pc := 245) dX3_setLine_245 cstb17 ?_
      refine wq_iconst (pc := 247) dX3_setLine_247 csti4 ?_
      refine wq_iload_n (pc := 248) dX3_setLine_248 rfl rfl ?_
      refine wq_imul (pc := 249) dX3_setLine_249 ?_
      refine wq_iadd (pc := 250) dX3_setLine_250 ?_
      refine wq_iload (pc := 251) dX3_setLine_251 rfl ?_
      refine wq_iadd (pc := 253) dX3_setLine_253 ?_
      refine wq_iload (pc := 254) dX3_setLine_254 rfl ?_
      refine tw_iast' (pc := 256) ok mia16 dX3_setLine_256 V (fun s11 V => ?_)
      refine wq_iload (pc := 257) dX3_setLine_257 rfl ?_
      refine wq_iload (pc := 259) dX3_setLine_259 rfl ?_
      refine wq_iadd (pc := 261) dX3_setLine_261 ?_
      refine wq_istore (L' := [some (.ref o), some (.int x1), none, some (.int x3), some (.int (x4 + y10)), some (.int x5), some (.int z0), some (.int y10)]) (pc := 262) dX3_setLine_262 (Nat.le_of_ble_eq_true rfl) rfl ?_
      refine wq_iinc (L' := [some (.ref o), some (.int x1), none, some (.int x3), some (.int (x4 + y10)), some (.int (x5 + (1 : Int32))), some (.int z0), some (.int y10)]) (pc := 264) dX3_setLine_264 rfl (by rw [csti1]) (Nat.le_of_ble_eq_true rfl) rfl ?_
      refine wq_goto (pc := 267) (tgt := 142) dX3_setLine_267 rfl ?_
      exact wq_T.less V ⟨rfl, ⟨rfl, ⟨rfl, ⟨rfl, ⟨rfl, trivial⟩⟩⟩⟩⟩
theorem vX3_passed_0 {G : wq_G} {l : Launch} {o : Nat} {ad : Nat → Nat} {h : wq_H} {d : Nat} {K : Int32 → tw_S → Prop} (ok : tw_ok G o ad)  {x1 : Int32} {x2 : Int32} {s : tw_S} (V : tw_ci G l o ad h d mX3_named [.ref o, .int x1, .int x2] s (fun y2 s1 => (¬ (s1.1 13) = 0 → K y2 s1) ∧ ((s1.1 13) = 0 → tw_cv G l o ad h d mX3_next [.ref o] s1 (fun s3 => K y2 s3)))) : tw_T G l o ad h d mX3_passed (tw_qi G o ad h K) 0 [some (.ref o), some (.int x1), some (.int x2), none] [] s := by
  refine wq_aload_n (pc := 0) dX3_passed_0 rfl rfl ?_
  refine wq_iload_n (pc := 1) dX3_passed_1 rfl rfl ?_
  refine wq_iload_n (pc := 2) dX3_passed_2 rfl rfl ?_
  refine tcq1944 (pc := 3) (As := [.int x1, .int x2]) (st := []) rfl dX3_passed_3 rfl (Nat.le_of_ble_eq_true rfl) V (tw_ki (fun y2 s1 V => ?_))
  refine wq_istore_n (L' := [some (.ref o), some (.int x1), some (.int x2), some (.int y2)]) (pc := 6) dX3_passed_6 rfl (Nat.le_of_ble_eq_true rfl) rfl ?_
  refine wq_aload_n (pc := 7) dX3_passed_7 rfl rfl ?_
  refine tg13 (pc := 8) rfl dX3_passed_8 ?_
  refine wq_if_ne (pc := 11) (tgt := 18) dX3_passed_11 rfl (fun c => ?_) (fun c => ?_)
  · have V := V.1 c
    refine wq_iload_n (pc := 18) dX3_passed_18 rfl rfl ?_
    refine wq_iret (pc := 19) dX3_passed_19 rfl ⟨_, _, rfl, rfl, V⟩
  · have V := V.2 c
    refine wq_aload_n (pc := 14) dX3_passed_14 rfl rfl ?_
    refine tcq1847 (pc := 15) (As := []) (st := []) rfl dX3_passed_15 rfl (Nat.le_of_ble_eq_true rfl) V (tw_kv (fun s3 V => ?_))
    refine wq_iload_n (pc := 18) dX3_passed_18 rfl rfl ?_
    refine wq_iret (pc := 19) dX3_passed_19 rfl ⟨_, _, rfl, rfl, V⟩
theorem vX3_named_0 {G : wq_G} {l : Launch} {o : Nat} {ad : Nat → Nat} {h : wq_H} {d : Nat} {K : Int32 → tw_S → Prop} (ok : tw_ok G o ad)  {x1 : Int32} {x2 : Int32} {s : tw_S} (V : ((s.1 13) = 0 → tw_cv G l o ad h d mX3_mustName [.ref o] s (fun s1 => ((s1.1 13) = 0 → tw_ci G l o ad h d mX3_find [.ref o] s1 (fun y3 s2 => (y3 < 0 → tw_cv G l o ad h d mX3_wrong [.ref o, .int (2 : Int32), .int (s2.1 4)] s2 (fun s4 => tw_T G l o ad h d mX3_named (tw_qi G o ad h K) 55 [some (.ref o), some (.int x1), some (.int x2), some (.int y3), none] [] s4)) ∧ (¬ y3 < 0 → ((6 : Int32) ≤ y3 → (x1 = (0 : Int32) → tw_T G l o ad h d mX3_named (tw_qi G o ad h K) 55 [some (.ref o), some (.int x1), some (.int x2), some (.int y3), none] [] s2) ∧ (¬ x1 = (0 : Int32) → tw_cv G l o ad h d mX3_wrong [.ref o, .int (2 : Int32), .int (s2.1 4)] s2 (fun s5 => tw_T G l o ad h d mX3_named (tw_qi G o ad h K) 55 [some (.ref o), some (.int x1), some (.int x2), some (.int y3), none] [] s5))) ∧ (¬ (6 : Int32) ≤ y3 → (x1 = (1 : Int32) → tw_T G l o ad h d mX3_named (tw_qi G o ad h K) 55 [some (.ref o), some (.int x1), some (.int x2), some (.int y3), none] [] s2) ∧ (¬ x1 = (1 : Int32) → tw_cv G l o ad h d mX3_wrong [.ref o, .int (2 : Int32), .int (s2.1 4)] s2 (fun s6 => tw_T G l o ad h d mX3_named (tw_qi G o ad h K) 55 [some (.ref o), some (.int x1), some (.int x2), some (.int y3), none] [] s6)))))) ∧ (¬ (s1.1 13) = 0 → K (0 : Int32) s1))) ∧ (¬ (s.1 13) = 0 → K (0 : Int32) s)) : tw_T G l o ad h d mX3_named (tw_qi G o ad h K) 0 [some (.ref o), some (.int x1), some (.int x2), none, none] [] s := by
  refine wq_aload_n (pc := 0) dX3_named_0 rfl rfl ?_
  refine tg13 (pc := 1) rfl dX3_named_1 ?_
  refine wq_if_eq (pc := 4) (tgt := 9) dX3_named_4 rfl (fun c => ?_) (fun c => ?_)
  · have V := V.1 c
    refine wq_aload_n (pc := 9) dX3_named_9 rfl rfl ?_
    refine tcq1919 (pc := 10) (As := []) (st := []) rfl dX3_named_10 rfl (Nat.le_of_ble_eq_true rfl) V (tw_kv (fun s1 V => ?_))
    refine wq_aload_n (pc := 13) dX3_named_13 rfl rfl ?_
    refine tg13 (pc := 14) rfl dX3_named_14 ?_
    refine wq_if_eq (pc := 17) (tgt := 22) dX3_named_17 rfl (fun c => ?_) (fun c => ?_)
    · have V := V.1 c
      refine wq_aload_n (pc := 22) dX3_named_22 rfl rfl ?_
      refine tcq1928 (pc := 23) (As := []) (st := []) rfl dX3_named_23 rfl (Nat.le_of_ble_eq_true rfl) V (tw_ki (fun y3 s2 V => ?_))
      refine wq_istore_n (L' := [some (.ref o), some (.int x1), some (.int x2), some (.int y3), none]) (pc := 26) dX3_named_26 rfl (Nat.le_of_ble_eq_true rfl) rfl ?_
      refine wq_iload_n (pc := 27) dX3_named_27 rfl rfl ?_
      refine wq_if_lt (pc := 28) (tgt := 46) dX3_named_28 rfl (fun c => ?_) (fun c => ?_)
      · have V := V.1 c
        refine wq_aload_n (pc := 46) dX3_named_46 rfl rfl ?_
        refine wq_iconst (pc := 47) dX3_named_47 csti2 ?_
        refine wq_aload_n (pc := 48) dX3_named_48 rfl rfl ?_
        refine tg4 (pc := 49) rfl dX3_named_49 ?_
        refine tcq1893 (pc := 52) (As := [.int (2 : Int32), .int (s2.1 4)]) (st := []) rfl dX3_named_52 rfl (Nat.le_of_ble_eq_true rfl) V (tw_kv (fun s4 V => ?_))
        exact V
      · have V := V.2 c
        refine wq_iload_n (pc := 31) dX3_named_31 rfl rfl ?_
        refine wq_iload_n (pc := 32) dX3_named_32 rfl rfl ?_
        refine wq_bipush (pc := 33) dX3_named_33 cstb6 ?_
        refine wq_icmp_ge (pc := 35) (tgt := 42) dX3_named_35 rfl (fun c => ?_) (fun c => ?_)
        · have V := V.1 c
          refine wq_iconst (pc := 42) dX3_named_42 csti0 ?_
          refine wq_icmp_eq (pc := 43) (tgt := 55) dX3_named_43 rfl (fun c => ?_) (fun c => ?_)
          · have V := V.1 c
            exact V
          · have V := V.2 c
            refine wq_aload_n (pc := 46) dX3_named_46 rfl rfl ?_
            refine wq_iconst (pc := 47) dX3_named_47 csti2 ?_
            refine wq_aload_n (pc := 48) dX3_named_48 rfl rfl ?_
            refine tg4 (pc := 49) rfl dX3_named_49 ?_
            refine tcq1893 (pc := 52) (As := [.int (2 : Int32), .int (s2.1 4)]) (st := []) rfl dX3_named_52 rfl (Nat.le_of_ble_eq_true rfl) V (tw_kv (fun s5 V => ?_))
            exact V
        · have V := V.2 c
          refine wq_iconst (pc := 38) dX3_named_38 csti1 ?_
          refine wq_goto (pc := 39) (tgt := 43) dX3_named_39 rfl ?_
          refine wq_icmp_eq (pc := 43) (tgt := 55) dX3_named_43 rfl (fun c => ?_) (fun c => ?_)
          · have V := V.1 c
            exact V
          · have V := V.2 c
            refine wq_aload_n (pc := 46) dX3_named_46 rfl rfl ?_
            refine wq_iconst (pc := 47) dX3_named_47 csti2 ?_
            refine wq_aload_n (pc := 48) dX3_named_48 rfl rfl ?_
            refine tg4 (pc := 49) rfl dX3_named_49 ?_
            refine tcq1893 (pc := 52) (As := [.int (2 : Int32), .int (s2.1 4)]) (st := []) rfl dX3_named_52 rfl (Nat.le_of_ble_eq_true rfl) V (tw_kv (fun s6 V => ?_))
            exact V
    · have V := V.2 c
      refine wq_iconst (pc := 20) dX3_named_20 csti0 ?_
      refine wq_iret (pc := 21) dX3_named_21 rfl ⟨_, _, rfl, rfl, V⟩
  · have V := V.2 c
    refine wq_iconst (pc := 7) dX3_named_7 csti0 ?_
    refine wq_iret (pc := 8) dX3_named_8 rfl ⟨_, _, rfl, rfl, V⟩
theorem vX3_named_55 {G : wq_G} {l : Launch} {o : Nat} {ad : Nat → Nat} {h : wq_H} {d : Nat} {K : Int32 → tw_S → Prop} (ok : tw_ok G o ad)  {x1 : Int32} {x2 : Int32} {x3 : Int32} {s : tw_S} (V : ((s.1 13) = 0 → (x1 = 0 → tw_ci G l o ad h d mX3_has [.int x2, .int (x3 - (6 : Int32))] s (fun y2 s1 => (y2 = 0 → K (x3 - (6 : Int32)) s1) ∧ (¬ y2 = 0 → tw_cv G l o ad h d mX3_wrong [.ref o, .int (3 : Int32), .int (s1.1 4)] s1 (fun s3 => K (x3 - (6 : Int32)) s3)))) ∧ (¬ x1 = 0 → tw_ci G l o ad h d mX3_has [.int x2, .int x3] s (fun y5 s4 => (y5 = 0 → K x3 s4) ∧ (¬ y5 = 0 → tw_cv G l o ad h d mX3_wrong [.ref o, .int (3 : Int32), .int (s4.1 4)] s4 (fun s6 => K x3 s6))))) ∧ (¬ (s.1 13) = 0 → K (0 : Int32) s)) : tw_T G l o ad h d mX3_named (tw_qi G o ad h K) 55 [some (.ref o), some (.int x1), some (.int x2), some (.int x3), none] [] s := by
  refine wq_aload_n (pc := 55) dX3_named_55 rfl rfl ?_
  refine tg13 (pc := 56) rfl dX3_named_56 ?_
  refine wq_if_eq (pc := 59) (tgt := 64) dX3_named_59 rfl (fun c => ?_) (fun c => ?_)
  · have V := V.1 c
    refine wq_iload_n (pc := 64) dX3_named_64 rfl rfl ?_
    refine wq_if_eq (pc := 65) (tgt := 72) dX3_named_65 rfl (fun c => ?_) (fun c => ?_)
    · have V := V.1 c
      refine wq_iload_n (pc := 72) dX3_named_72 rfl rfl ?_
      refine wq_bipush (pc := 73) dX3_named_73 cstb6 ?_
      refine wq_isub (pc := 75) dX3_named_75 ?_
      refine wq_istore (L' := [some (.ref o), some (.int x1), some (.int x2), some (.int x3), some (.int (x3 - (6 : Int32)))]) (pc := 76) dX3_named_76 (Nat.le_of_ble_eq_true rfl) rfl ?_
      refine wq_iload_n (pc := 78) dX3_named_78 rfl rfl ?_
      refine wq_iload (pc := 79) dX3_named_79 rfl ?_
      refine tcq1948 (pc := 81) (As := [.int x2, .int (x3 - (6 : Int32))]) (st := []) rfl dX3_named_81 rfl (Nat.le_of_ble_eq_true rfl) V (tw_ki (fun y2 s1 V => ?_))
      refine wq_if_eq (pc := 84) (tgt := 96) dX3_named_84 rfl (fun c => ?_) (fun c => ?_)
      · have V := V.1 c
        refine wq_iload (pc := 96) dX3_named_96 rfl ?_
        refine wq_iret (pc := 98) dX3_named_98 rfl ⟨_, _, rfl, rfl, V⟩
      · have V := V.2 c
        refine wq_aload_n (pc := 87) dX3_named_87 rfl rfl ?_
        refine wq_iconst (pc := 88) dX3_named_88 csti3 ?_
        refine wq_aload_n (pc := 89) dX3_named_89 rfl rfl ?_
        refine tg4 (pc := 90) rfl dX3_named_90 ?_
        refine tcq1893 (pc := 93) (As := [.int (3 : Int32), .int (s1.1 4)]) (st := []) rfl dX3_named_93 rfl (Nat.le_of_ble_eq_true rfl) V (tw_kv (fun s3 V => ?_))
        refine wq_iload (pc := 96) dX3_named_96 rfl ?_
        refine wq_iret (pc := 98) dX3_named_98 rfl ⟨_, _, rfl, rfl, V⟩
    · have V := V.2 c
      refine wq_iload_n (pc := 68) dX3_named_68 rfl rfl ?_
      refine wq_goto (pc := 69) (tgt := 76) dX3_named_69 rfl ?_
      refine wq_istore (L' := [some (.ref o), some (.int x1), some (.int x2), some (.int x3), some (.int x3)]) (pc := 76) dX3_named_76 (Nat.le_of_ble_eq_true rfl) rfl ?_
      refine wq_iload_n (pc := 78) dX3_named_78 rfl rfl ?_
      refine wq_iload (pc := 79) dX3_named_79 rfl ?_
      refine tcq1948 (pc := 81) (As := [.int x2, .int x3]) (st := []) rfl dX3_named_81 rfl (Nat.le_of_ble_eq_true rfl) V (tw_ki (fun y5 s4 V => ?_))
      refine wq_if_eq (pc := 84) (tgt := 96) dX3_named_84 rfl (fun c => ?_) (fun c => ?_)
      · have V := V.1 c
        refine wq_iload (pc := 96) dX3_named_96 rfl ?_
        refine wq_iret (pc := 98) dX3_named_98 rfl ⟨_, _, rfl, rfl, V⟩
      · have V := V.2 c
        refine wq_aload_n (pc := 87) dX3_named_87 rfl rfl ?_
        refine wq_iconst (pc := 88) dX3_named_88 csti3 ?_
        refine wq_aload_n (pc := 89) dX3_named_89 rfl rfl ?_
        refine tg4 (pc := 90) rfl dX3_named_90 ?_
        refine tcq1893 (pc := 93) (As := [.int (3 : Int32), .int (s4.1 4)]) (st := []) rfl dX3_named_93 rfl (Nat.le_of_ble_eq_true rfl) V (tw_kv (fun s6 V => ?_))
        refine wq_iload (pc := 96) dX3_named_96 rfl ?_
        refine wq_iret (pc := 98) dX3_named_98 rfl ⟨_, _, rfl, rfl, V⟩
  · have V := V.2 c
    refine wq_iconst (pc := 62) dX3_named_62 csti0 ?_
    refine wq_iret (pc := 63) dX3_named_63 rfl ⟨_, _, rfl, rfl, V⟩
theorem vX3_has_0 {G : wq_G} {l : Launch} {o : Nat} {ad : Nat → Nat} {h : wq_H} {d : Nat} {K : Int32 → tw_S → Prop} (ok : tw_ok G o ad)  {x0 : Int32} {x1 : Int32} {s : tw_S} (V : (¬ ((x0 >>> (x1 &&& 31)) &&& (1 : Int32)) = (1 : Int32) → K (0 : Int32) s) ∧ (((x0 >>> (x1 &&& 31)) &&& (1 : Int32)) = (1 : Int32) → K (1 : Int32) s)) : tw_T G l o ad h d mX3_has (tw_qi G o ad h K) 0 [some (.int x0), some (.int x1)] [] s := by
  refine wq_iload_n (pc := 0) dX3_has_0 rfl rfl ?_
  refine wq_iload_n (pc := 1) dX3_has_1 rfl rfl ?_
  refine wq_ishr (pc := 2) dX3_has_2 ?_
  refine wq_iconst (pc := 3) dX3_has_3 csti1 ?_
  refine wq_iand (pc := 4) dX3_has_4 ?_
  refine wq_iconst (pc := 5) dX3_has_5 csti1 ?_
  refine wq_icmp_ne (pc := 6) (tgt := 13) dX3_has_6 rfl (fun c => ?_) (fun c => ?_)
  · have V := V.1 c
    refine wq_iconst (pc := 13) dX3_has_13 csti0 ?_
    refine wq_zret (pc := 14) dX3_has_14 rfl tw_nb0 ⟨_, _, rfl, rfl, V⟩
  · have V := V.2 c
    refine wq_iconst (pc := 9) dX3_has_9 csti1 ?_
    refine wq_goto (pc := 10) (tgt := 14) dX3_has_10 rfl ?_
    refine wq_zret (pc := 14) dX3_has_14 rfl tw_nb1 ⟨_, _, rfl, rfl, V⟩
theorem vX3_mustComma_0 {G : wq_G} {l : Launch} {o : Nat} {ad : Nat → Nat} {h : wq_H} {d : Nat} {K : tw_S → Prop} (ok : tw_ok G o ad)   {s : tw_S} (V : (¬ (s.1 13) = 0 → K s) ∧ ((s.1 13) = 0 → tw_ci G l o ad h d mX3_comma [.ref o] s (fun y2 s1 => (¬ y2 = 0 → K s1) ∧ (y2 = 0 → tw_cv G l o ad h d mX3_wrong [.ref o, .int (1 : Int32), .int (s1.1 4)] s1 (fun s3 => K s3))))) : tw_T G l o ad h d mX3_mustComma (tw_qv G o ad h K) 0 [some (.ref o)] [] s := by
  refine wq_aload_n (pc := 0) dX3_mustComma_0 rfl rfl ?_
  refine tg13 (pc := 1) rfl dX3_mustComma_1 ?_
  refine wq_if_ne (pc := 4) (tgt := 23) dX3_mustComma_4 rfl (fun c => ?_) (fun c => ?_)
  · have V := V.1 c
    refine wq_vret (pc := 23) dX3_mustComma_23 rfl ⟨_, rfl, rfl, V⟩
  · have V := V.2 c
    refine wq_aload_n (pc := 7) dX3_mustComma_7 rfl rfl ?_
    refine tcq1932 (pc := 8) (As := []) (st := []) rfl dX3_mustComma_8 rfl (Nat.le_of_ble_eq_true rfl) V (tw_ki (fun y2 s1 V => ?_))
    refine wq_if_ne (pc := 11) (tgt := 23) dX3_mustComma_11 rfl (fun c => ?_) (fun c => ?_)
    · have V := V.1 c
      refine wq_vret (pc := 23) dX3_mustComma_23 rfl ⟨_, rfl, rfl, V⟩
    · have V := V.2 c
      refine wq_aload_n (pc := 14) dX3_mustComma_14 rfl rfl ?_
      refine wq_iconst (pc := 15) dX3_mustComma_15 csti1 ?_
      refine wq_aload_n (pc := 16) dX3_mustComma_16 rfl rfl ?_
      refine tg4 (pc := 17) rfl dX3_mustComma_17 ?_
      refine tcq1893 (pc := 20) (As := [.int (1 : Int32), .int (s1.1 4)]) (st := []) rfl dX3_mustComma_20 rfl (Nat.le_of_ble_eq_true rfl) V (tw_kv (fun s3 V => ?_))
      refine wq_vret (pc := 23) dX3_mustComma_23 rfl ⟨_, rfl, rfl, V⟩
theorem vX3_lineLine_0 {G : wq_G} {l : Launch} {o : Nat} {ad : Nat → Nat} {h : wq_H} {d : Nat} {K : tw_S → Prop} (ok : tw_ok G o ad)   {s : tw_S} (V : ((s.1 13) = 0 → tw_ld s 16 (52 : Int32) (fun y1 => tw_T G l o ad h d mX3_lineLine (tw_qv G o ad h K) 20 [some (.ref o), some (.int y1), some (.int (0 : Int32)), some (.int (0 : Int32)), none] [] s)) ∧ (¬ (s.1 13) = 0 → K s)) : tw_T G l o ad h d mX3_lineLine (tw_qv G o ad h K) 0 [some (.ref o), none, none, none, none] [] s := by
  refine wq_aload_n (pc := 0) dX3_lineLine_0 rfl rfl ?_
  refine tg13 (pc := 1) rfl dX3_lineLine_1 ?_
  refine wq_if_eq (pc := 4) (tgt := 8) dX3_lineLine_4 rfl (fun c => ?_) (fun c => ?_)
  · have V := V.1 c
    refine wq_aload_n (pc := 8) dX3_lineLine_8 rfl rfl ?_
    refine tg16 (pc := 9) rfl dX3_lineLine_9 ?_
    refine wq_bipush (pc := 12) dX3_lineLine_12 cstb52 ?_
    refine tw_iald' (pc := 14) ok mia16 dX3_lineLine_14 V (fun y1 V => ?_)
    refine wq_istore_n (L' := [some (.ref o), some (.int y1), none, none, none]) (pc := 15) dX3_lineLine_15 rfl (Nat.le_of_ble_eq_true rfl) rfl ?_
    refine wq_iconst (pc := 16) dX3_lineLine_16 csti0 ?_
    refine wq_istore_n (L' := [some (.ref o), some (.int y1), some (.int (0 : Int32)), none, none]) (pc := 17) dX3_lineLine_17 rfl (Nat.le_of_ble_eq_true rfl) rfl ?_
    refine wq_iconst (pc := 18) dX3_lineLine_18 csti0 ?_
    refine wq_istore_n (L' := [some (.ref o), some (.int y1), some (.int (0 : Int32)), some (.int (0 : Int32)), none]) (pc := 19) dX3_lineLine_19 rfl (Nat.le_of_ble_eq_true rfl) rfl ?_
    exact V
  · have V := V.2 c
    refine wq_vret (pc := 7) dX3_lineLine_7 rfl ⟨_, rfl, rfl, V⟩
theorem vX3_lineLine_20 {G : wq_G} {l : Launch} {o : Nat} {ad : Nat → Nat} {h : wq_H} {d : Nat} {K : tw_S → Prop} (ok : tw_ok G o ad)  {x1 : Int32} {x2 : Int32} {x3 : Int32} {s : tw_S} (V : ((3 : Int32) ≤ x3 → tw_cv G l o ad h d mX3_pass [.ref o, .ref (G.2.2.2.2 12)] s (fun s1 => ((s1.1 13) = 0 → tw_ci G l o ad h d mX3_takes [.ref o, .ref (G.2.2.2.2 16)] s1 (fun y3 s2 => (y3 = 0 → tw_cv G l o ad h d mX3_pass [.ref o, .ref (G.2.2.2.2 11)] s2 (fun s4 => tw_ld s4 16 (52 : Int32) (fun y5 => tw_st s4 16 (52 : Int32) (y5 + (1 : Int32)) (fun s6 => K s6)))) ∧ (¬ y3 = 0 → tw_st s2 16 ((77 : Int32) + x1) (1 : Int32) (fun s7 => tw_ld s7 16 (52 : Int32) (fun y8 => tw_st s7 16 (52 : Int32) (y8 + (1 : Int32)) (fun s9 => K s9)))))) ∧ (¬ (s1.1 13) = 0 → K s1))) ∧ (¬ (3 : Int32) ≤ x3 → (x3 ≤ 0 → tw_ci G l o ad h d mX3_passed [.ref o, .int (0 : Int32), .int x2] s (fun y11 s10 => ((s10.1 13) = 0 → tw_st s10 16 (((53 : Int32) + ((3 : Int32) * x1)) + x3) y11 (fun s12 => tw_T G l o ad h d mX3_lineLine (tw_qv G o ad h K) 20 [some (.ref o), some (.int x1), some (.int (x2 ||| ((1 : Int32) <<< (y11 &&& 31)))), some (.int (x3 + (1 : Int32))), none] [] s12)) ∧ (¬ (s10.1 13) = 0 → K s10))) ∧ (¬ x3 ≤ 0 → tw_cv G l o ad h d mX3_mustComma [.ref o] s (fun s13 => tw_ci G l o ad h d mX3_passed [.ref o, .int (0 : Int32), .int x2] s13 (fun y15 s14 => ((s14.1 13) = 0 → tw_st s14 16 (((53 : Int32) + ((3 : Int32) * x1)) + x3) y15 (fun s16 => tw_T G l o ad h d mX3_lineLine (tw_qv G o ad h K) 20 [some (.ref o), some (.int x1), some (.int (x2 ||| ((1 : Int32) <<< (y15 &&& 31)))), some (.int (x3 + (1 : Int32))), none] [] s16)) ∧ (¬ (s14.1 13) = 0 → K s14)))))) : tw_T G l o ad h d mX3_lineLine (tw_qv G o ad h K) 20 [some (.ref o), some (.int x1), some (.int x2), some (.int x3), none] [] s := by
  refine wq_iload_n (pc := 20) dX3_lineLine_20 rfl rfl ?_
  refine wq_iconst (pc := 21) dX3_lineLine_21 csti3 ?_
  refine wq_icmp_ge (pc := 22) (tgt := 77) dX3_lineLine_22 rfl (fun c => ?_) (fun c => ?_)
  · have V := V.1 c
    refine wq_aload_n (pc := 77) dX3_lineLine_77 rfl rfl ?_
    refine wq_ldcS (a := G.2.2.2.2 12) (pc := 78) (mstr_X3_238 G) dX3_lineLine_78 ?_
    refine tcq1902 (pc := 80) (As := [.ref (G.2.2.2.2 12)]) (st := []) rfl dX3_lineLine_80 rfl (Nat.le_of_ble_eq_true rfl) V (tw_kv (fun s1 V => ?_))
    refine wq_aload_n (pc := 83) dX3_lineLine_83 rfl rfl ?_
    refine tg13 (pc := 84) rfl dX3_lineLine_84 ?_
    refine wq_if_eq (pc := 87) (tgt := 91) dX3_lineLine_87 rfl (fun c => ?_) (fun c => ?_)
    · have V := V.1 c
      refine wq_aload_n (pc := 91) dX3_lineLine_91 rfl rfl ?_
      refine wq_ldcS (a := G.2.2.2.2 16) (pc := 92) (mstr_X3_240 G) dX3_lineLine_92 ?_
      refine tcq1906 (pc := 94) (As := [.ref (G.2.2.2.2 16)]) (st := []) rfl dX3_lineLine_94 rfl (Nat.le_of_ble_eq_true rfl) V (tw_ki (fun y3 s2 V => ?_))
      refine wq_if_eq (pc := 97) (tgt := 113) dX3_lineLine_97 rfl (fun c => ?_) (fun c => ?_)
      · have V := V.1 c
        refine wq_aload_n (pc := 113) dX3_lineLine_113 rfl rfl ?_
        refine wq_ldcS (a := G.2.2.2.2 11) (pc := 114) (mstr_X3_242 G) dX3_lineLine_114 ?_
        refine tcq1902 (pc := 116) (As := [.ref (G.2.2.2.2 11)]) (st := []) rfl dX3_lineLine_116 rfl (Nat.le_of_ble_eq_true rfl) V (tw_kv (fun s4 V => ?_))
        refine wq_aload_n (pc := 119) dX3_lineLine_119 rfl rfl ?_
        refine tg16 (pc := 120) rfl dX3_lineLine_120 ?_
        refine wq_bipush (pc := 123) dX3_lineLine_123 cstb52 ?_
        refine wq_dup2 (pc := 125) dX3_lineLine_125 rfl rfl ?_
        refine tw_iald' (pc := 126) ok mia16 dX3_lineLine_126 V (fun y5 V => ?_)
        refine wq_iconst (pc := 127) dX3_lineLine_127 csti1 ?_
        refine wq_iadd (pc := 128) dX3_lineLine_128 ?_
        refine tw_iast' (pc := 129) ok mia16 dX3_lineLine_129 V (fun s6 V => ?_)
        refine wq_vret (pc := 130) dX3_lineLine_130 rfl ⟨_, rfl, rfl, V⟩
      · have V := V.2 c
        refine wq_aload_n (pc := 100) dX3_lineLine_100 rfl rfl ?_
        refine tg16 (pc := 101) rfl dX3_lineLine_101 ?_
        refine wq_bipush (pc := 104) dX3_lineLine_104 cstb77 ?_
        refine wq_iload_n (pc := 106) dX3_lineLine_106 rfl rfl ?_
        refine wq_iadd (pc := 107) dX3_lineLine_107 ?_
        refine wq_iconst (pc := 108) dX3_lineLine_108 csti1 ?_
        refine tw_iast' (pc := 109) ok mia16 dX3_lineLine_109 V (fun s7 V => ?_)
        refine wq_goto (pc := 110) (tgt := 119) dX3_lineLine_110 rfl ?_
        refine wq_aload_n (pc := 119) dX3_lineLine_119 rfl rfl ?_
        refine tg16 (pc := 120) rfl dX3_lineLine_120 ?_
        refine wq_bipush (pc := 123) dX3_lineLine_123 cstb52 ?_
        refine wq_dup2 (pc := 125) dX3_lineLine_125 rfl rfl ?_
        refine tw_iald' (pc := 126) ok mia16 dX3_lineLine_126 V (fun y8 V => ?_)
        refine wq_iconst (pc := 127) dX3_lineLine_127 csti1 ?_
        refine wq_iadd (pc := 128) dX3_lineLine_128 ?_
        refine tw_iast' (pc := 129) ok mia16 dX3_lineLine_129 V (fun s9 V => ?_)
        refine wq_vret (pc := 130) dX3_lineLine_130 rfl ⟨_, rfl, rfl, V⟩
    · have V := V.2 c
      refine wq_vret (pc := 90) dX3_lineLine_90 rfl ⟨_, rfl, rfl, V⟩
  · have V := V.2 c
    refine wq_iload_n (pc := 25) dX3_lineLine_25 rfl rfl ?_
    refine wq_if_le (pc := 26) (tgt := 33) dX3_lineLine_26 rfl (fun c => ?_) (fun c => ?_)
    · have V := V.1 c
      refine wq_aload_n (pc := 33) dX3_lineLine_33 rfl rfl ?_
      refine wq_iconst (pc := 34) dX3_lineLine_34 csti0 ?_
      refine wq_iload_n (pc := 35) dX3_lineLine_35 rfl rfl ?_
      refine tcq1940 (pc := 36) (As := [.int (0 : Int32), .int x2]) (st := []) rfl dX3_lineLine_36 rfl (Nat.le_of_ble_eq_true rfl) V (tw_ki (fun y11 s10 V => ?_))
      refine wq_istore (L' := [some (.ref o), some (.int x1), some (.int x2), some (.int x3), some (.int y11)]) (pc := 39) dX3_lineLine_39 (Nat.le_of_ble_eq_true rfl) rfl ?_
      refine wq_aload_n (pc := 41) dX3_lineLine_41 rfl rfl ?_
      refine tg13 (pc := 42) rfl dX3_lineLine_42 ?_
      refine wq_if_eq (pc := 45) (tgt := 49) dX3_lineLine_45 rfl (fun c => ?_) (fun c => ?_)
      · have V := V.1 c
        refine wq_iload_n (pc := 49) dX3_lineLine_49 rfl rfl ?_
        refine wq_iconst (pc := 50) dX3_lineLine_50 csti1 ?_
        refine wq_iload (pc := 51) dX3_lineLine_51 rfl ?_
        refine wq_ishl (pc := 53) dX3_lineLine_53 ?_
        refine wq_ior (pc := 54) dX3_lineLine_54 ?_
        refine wq_istore_n (L' := [some (.ref o), some (.int x1), some (.int (x2 ||| ((1 : Int32) <<< (y11 &&& 31)))), some (.int x3), some (.int y11)]) (pc := 55) dX3_lineLine_55 rfl (Nat.le_of_ble_eq_true rfl) rfl ?_
        refine wq_aload_n (pc := 56) dX3_lineLine_56 rfl rfl ?_
        refine tg16 (pc := 57) rfl dX3_lineLine_57 ?_
        refine wq_bipush (pc := 60) dX3_lineLine_60 cstb53 ?_
        refine wq_iconst (pc := 62) dX3_lineLine_62 csti3 ?_
        refine wq_iload_n (pc := 63) dX3_lineLine_63 rfl rfl ?_
        refine wq_imul (pc := 64) dX3_lineLine_64 ?_
        refine wq_iadd (pc := 65) dX3_lineLine_65 ?_
        refine wq_iload_n (pc := 66) dX3_lineLine_66 rfl rfl ?_
        refine wq_iadd (pc := 67) dX3_lineLine_67 ?_
        refine wq_iload (pc := 68) dX3_lineLine_68 rfl ?_
        refine tw_iast' (pc := 70) ok mia16 dX3_lineLine_70 V (fun s12 V => ?_)
        refine wq_iinc (L' := [some (.ref o), some (.int x1), some (.int (x2 ||| ((1 : Int32) <<< (y11 &&& 31)))), some (.int (x3 + (1 : Int32))), some (.int y11)]) (pc := 71) dX3_lineLine_71 rfl (by rw [csti1]) (Nat.le_of_ble_eq_true rfl) rfl ?_
        refine wq_goto (pc := 74) (tgt := 20) dX3_lineLine_74 rfl ?_
        exact wq_T.less V ⟨rfl, ⟨rfl, ⟨rfl, ⟨rfl, trivial⟩⟩⟩⟩
      · have V := V.2 c
        refine wq_vret (pc := 48) dX3_lineLine_48 rfl ⟨_, rfl, rfl, V⟩
    · have V := V.2 c
      refine wq_aload_n (pc := 29) dX3_lineLine_29 rfl rfl ?_
      refine tcq1952 (pc := 30) (As := []) (st := []) rfl dX3_lineLine_30 rfl (Nat.le_of_ble_eq_true rfl) V (tw_kv (fun s13 V => ?_))
      refine wq_aload_n (pc := 33) dX3_lineLine_33 rfl rfl ?_
      refine wq_iconst (pc := 34) dX3_lineLine_34 csti0 ?_
      refine wq_iload_n (pc := 35) dX3_lineLine_35 rfl rfl ?_
      refine tcq1940 (pc := 36) (As := [.int (0 : Int32), .int x2]) (st := []) rfl dX3_lineLine_36 rfl (Nat.le_of_ble_eq_true rfl) V (tw_ki (fun y15 s14 V => ?_))
      refine wq_istore (L' := [some (.ref o), some (.int x1), some (.int x2), some (.int x3), some (.int y15)]) (pc := 39) dX3_lineLine_39 (Nat.le_of_ble_eq_true rfl) rfl ?_
      refine wq_aload_n (pc := 41) dX3_lineLine_41 rfl rfl ?_
      refine tg13 (pc := 42) rfl dX3_lineLine_42 ?_
      refine wq_if_eq (pc := 45) (tgt := 49) dX3_lineLine_45 rfl (fun c => ?_) (fun c => ?_)
      · have V := V.1 c
        refine wq_iload_n (pc := 49) dX3_lineLine_49 rfl rfl ?_
        refine wq_iconst (pc := 50) dX3_lineLine_50 csti1 ?_
        refine wq_iload (pc := 51) dX3_lineLine_51 rfl ?_
        refine wq_ishl (pc := 53) dX3_lineLine_53 ?_
        refine wq_ior (pc := 54) dX3_lineLine_54 ?_
        refine wq_istore_n (L' := [some (.ref o), some (.int x1), some (.int (x2 ||| ((1 : Int32) <<< (y15 &&& 31)))), some (.int x3), some (.int y15)]) (pc := 55) dX3_lineLine_55 rfl (Nat.le_of_ble_eq_true rfl) rfl ?_
        refine wq_aload_n (pc := 56) dX3_lineLine_56 rfl rfl ?_
        refine tg16 (pc := 57) rfl dX3_lineLine_57 ?_
        refine wq_bipush (pc := 60) dX3_lineLine_60 cstb53 ?_
        refine wq_iconst (pc := 62) dX3_lineLine_62 csti3 ?_
        refine wq_iload_n (pc := 63) dX3_lineLine_63 rfl rfl ?_
        refine wq_imul (pc := 64) dX3_lineLine_64 ?_
        refine wq_iadd (pc := 65) dX3_lineLine_65 ?_
        refine wq_iload_n (pc := 66) dX3_lineLine_66 rfl rfl ?_
        refine wq_iadd (pc := 67) dX3_lineLine_67 ?_
        refine wq_iload (pc := 68) dX3_lineLine_68 rfl ?_
        refine tw_iast' (pc := 70) ok mia16 dX3_lineLine_70 V (fun s16 V => ?_)
        refine wq_iinc (L' := [some (.ref o), some (.int x1), some (.int (x2 ||| ((1 : Int32) <<< (y15 &&& 31)))), some (.int (x3 + (1 : Int32))), some (.int y15)]) (pc := 71) dX3_lineLine_71 rfl (by rw [csti1]) (Nat.le_of_ble_eq_true rfl) rfl ?_
        refine wq_goto (pc := 74) (tgt := 20) dX3_lineLine_74 rfl ?_
        exact wq_T.less V ⟨rfl, ⟨rfl, ⟨rfl, ⟨rfl, trivial⟩⟩⟩⟩
      · have V := V.2 c
        refine wq_vret (pc := 48) dX3_lineLine_48 rfl ⟨_, rfl, rfl, V⟩
theorem vX3_rayLine_0 {G : wq_G} {l : Launch} {o : Nat} {ad : Nat → Nat} {h : wq_H} {d : Nat} {K : tw_S → Prop} (ok : tw_ok G o ad)   {s : tw_S} (V : ((s.1 13) = 0 → tw_ld s 16 (85 : Int32) (fun y1 => tw_T G l o ad h d mX3_rayLine (tw_qv G o ad h K) 20 [some (.ref o), some (.int y1), some (.int (0 : Int32)), some (.int (0 : Int32)), none, none, none] [] s)) ∧ (¬ (s.1 13) = 0 → K s)) : tw_T G l o ad h d mX3_rayLine (tw_qv G o ad h K) 0 [some (.ref o), none, none, none, none, none, none] [] s := by
  refine wq_aload_n (pc := 0) dX3_rayLine_0 rfl rfl ?_
  refine tg13 (pc := 1) rfl dX3_rayLine_1 ?_
  refine wq_if_eq (pc := 4) (tgt := 8) dX3_rayLine_4 rfl (fun c => ?_) (fun c => ?_)
  · have V := V.1 c
    refine wq_aload_n (pc := 8) dX3_rayLine_8 rfl rfl ?_
    refine tg16 (pc := 9) rfl dX3_rayLine_9 ?_
    refine wq_bipush (pc := 12) dX3_rayLine_12 cstb85 ?_
    refine tw_iald' (pc := 14) ok mia16 dX3_rayLine_14 V (fun y1 V => ?_)
    refine wq_istore_n (L' := [some (.ref o), some (.int y1), none, none, none, none, none]) (pc := 15) dX3_rayLine_15 rfl (Nat.le_of_ble_eq_true rfl) rfl ?_
    refine wq_iconst (pc := 16) dX3_rayLine_16 csti0 ?_
    refine wq_istore_n (L' := [some (.ref o), some (.int y1), some (.int (0 : Int32)), none, none, none, none]) (pc := 17) dX3_rayLine_17 rfl (Nat.le_of_ble_eq_true rfl) rfl ?_
    refine wq_iconst (pc := 18) dX3_rayLine_18 csti0 ?_
    refine wq_istore_n (L' := [some (.ref o), some (.int y1), some (.int (0 : Int32)), some (.int (0 : Int32)), none, none, none]) (pc := 19) dX3_rayLine_19 rfl (Nat.le_of_ble_eq_true rfl) rfl ?_
    exact V
  · have V := V.2 c
    refine wq_vret (pc := 7) dX3_rayLine_7 rfl ⟨_, rfl, rfl, V⟩
theorem vX3_rayLine_20 {G : wq_G} {l : Launch} {o : Nat} {ad : Nat → Nat} {h : wq_H} {d : Nat} {K : tw_S → Prop} (ok : tw_ok G o ad)  {x1 : Int32} {x2 : Int32} {x3 : Int32} {s : tw_S} (V : ((4 : Int32) ≤ x3 → (¬ (s.1 13) = 0 → K s) ∧ ((s.1 13) = 0 → tw_ld s 16 (85 : Int32) (fun y1 => tw_st s 16 (85 : Int32) (y1 + (1 : Int32)) (fun s2 => K s2)))) ∧ (¬ (4 : Int32) ≤ x3 → (x3 ≤ 0 → ((s.1 13) = 0 → (¬ (s.1 6) = (45 : Int32) → ((0 : Int32) = 0 → tw_T G l o ad h d mX3_rayLine (tw_qv G o ad h K) 66 [some (.ref o), some (.int x1), some (.int x2), some (.int x3), some (.int (0 : Int32)), none, none] [] s) ∧ (¬ (0 : Int32) = 0 → tw_cv G l o ad h d mX3_next [.ref o] s (fun s3 => tw_T G l o ad h d mX3_rayLine (tw_qv G o ad h K) 66 [some (.ref o), some (.int x1), some (.int x2), some (.int x3), some (.int (0 : Int32)), none, none] [] s3))) ∧ ((s.1 6) = (45 : Int32) → ((1 : Int32) = 0 → tw_T G l o ad h d mX3_rayLine (tw_qv G o ad h K) 66 [some (.ref o), some (.int x1), some (.int x2), some (.int x3), some (.int (1 : Int32)), none, none] [] s) ∧ (¬ (1 : Int32) = 0 → tw_cv G l o ad h d mX3_next [.ref o] s (fun s4 => tw_T G l o ad h d mX3_rayLine (tw_qv G o ad h K) 66 [some (.ref o), some (.int x1), some (.int x2), some (.int x3), some (.int (1 : Int32)), none, none] [] s4)))) ∧ (¬ (s.1 13) = 0 → K s)) ∧ (¬ x3 ≤ 0 → tw_cv G l o ad h d mX3_mustComma [.ref o] s (fun s5 => ((s5.1 13) = 0 → (¬ (s5.1 6) = (45 : Int32) → ((0 : Int32) = 0 → tw_T G l o ad h d mX3_rayLine (tw_qv G o ad h K) 66 [some (.ref o), some (.int x1), some (.int x2), some (.int x3), some (.int (0 : Int32)), none, none] [] s5) ∧ (¬ (0 : Int32) = 0 → tw_cv G l o ad h d mX3_next [.ref o] s5 (fun s6 => tw_T G l o ad h d mX3_rayLine (tw_qv G o ad h K) 66 [some (.ref o), some (.int x1), some (.int x2), some (.int x3), some (.int (0 : Int32)), none, none] [] s6))) ∧ ((s5.1 6) = (45 : Int32) → ((1 : Int32) = 0 → tw_T G l o ad h d mX3_rayLine (tw_qv G o ad h K) 66 [some (.ref o), some (.int x1), some (.int x2), some (.int x3), some (.int (1 : Int32)), none, none] [] s5) ∧ (¬ (1 : Int32) = 0 → tw_cv G l o ad h d mX3_next [.ref o] s5 (fun s7 => tw_T G l o ad h d mX3_rayLine (tw_qv G o ad h K) 66 [some (.ref o), some (.int x1), some (.int x2), some (.int x3), some (.int (1 : Int32)), none, none] [] s7)))) ∧ (¬ (s5.1 13) = 0 → K s5))))) : tw_T G l o ad h d mX3_rayLine (tw_qv G o ad h K) 20 [some (.ref o), some (.int x1), some (.int x2), some (.int x3), none, none, none] [] s := by
  refine wq_iload_n (pc := 20) dX3_rayLine_20 rfl rfl ?_
  refine wq_iconst (pc := 21) dX3_rayLine_21 csti4 ?_
  refine wq_icmp_ge (pc := 22) (tgt := 166) dX3_rayLine_22 rfl (fun c => ?_) (fun c => ?_)
  · have V := V.1 c
    refine wq_aload_n (pc := 166) dX3_rayLine_166 rfl rfl ?_
    refine tg13 (pc := 167) rfl dX3_rayLine_167 ?_
    refine wq_if_ne (pc := 170) (tgt := 184) dX3_rayLine_170 rfl (fun c => ?_) (fun c => ?_)
    · have V := V.1 c
      refine wq_vret (pc := 184) dX3_rayLine_184 rfl ⟨_, rfl, rfl, V⟩
    · have V := V.2 c
      refine wq_aload_n (pc := 173) dX3_rayLine_173 rfl rfl ?_
      refine tg16 (pc := 174) rfl dX3_rayLine_174 ?_
      refine wq_bipush (pc := 177) dX3_rayLine_177 cstb85 ?_
      refine wq_dup2 (pc := 179) dX3_rayLine_179 rfl rfl ?_
      refine tw_iald' (pc := 180) ok mia16 dX3_rayLine_180 V (fun y1 V => ?_)
      refine wq_iconst (pc := 181) dX3_rayLine_181 csti1 ?_
      refine wq_iadd (pc := 182) dX3_rayLine_182 ?_
      refine tw_iast' (pc := 183) ok mia16 dX3_rayLine_183 V (fun s2 V => ?_)
      refine wq_vret (pc := 184) dX3_rayLine_184 rfl ⟨_, rfl, rfl, V⟩
  · have V := V.2 c
    refine wq_iload_n (pc := 25) dX3_rayLine_25 rfl rfl ?_
    refine wq_if_le (pc := 26) (tgt := 33) dX3_rayLine_26 rfl (fun c => ?_) (fun c => ?_)
    · have V := V.1 c
      refine wq_aload_n (pc := 33) dX3_rayLine_33 rfl rfl ?_
      refine tg13 (pc := 34) rfl dX3_rayLine_34 ?_
      refine wq_if_eq (pc := 37) (tgt := 41) dX3_rayLine_37 rfl (fun c => ?_) (fun c => ?_)
      · have V := V.1 c
        refine wq_aload_n (pc := 41) dX3_rayLine_41 rfl rfl ?_
        refine tg6 (pc := 42) rfl dX3_rayLine_42 ?_
        refine wq_bipush (pc := 45) dX3_rayLine_45 cstb45 ?_
        refine wq_icmp_ne (pc := 47) (tgt := 54) dX3_rayLine_47 rfl (fun c => ?_) (fun c => ?_)
        · have V := V.1 c
          refine wq_iconst (pc := 54) dX3_rayLine_54 csti0 ?_
          refine wq_istore (L' := [some (.ref o), some (.int x1), some (.int x2), some (.int x3), some (.int (0 : Int32)), none, none]) (pc := 55) dX3_rayLine_55 (Nat.le_of_ble_eq_true rfl) rfl ?_
          refine wq_iload (pc := 57) dX3_rayLine_57 rfl ?_
          refine wq_if_eq (pc := 59) (tgt := 66) dX3_rayLine_59 rfl (fun c => ?_) (fun c => ?_)
          · have V := V.1 c
            exact V
          · have V := V.2 c
            refine wq_aload_n (pc := 62) dX3_rayLine_62 rfl rfl ?_
            refine tcq1847 (pc := 63) (As := []) (st := []) rfl dX3_rayLine_63 rfl (Nat.le_of_ble_eq_true rfl) V (tw_kv (fun s3 V => ?_))
            exact V
        · have V := V.2 c
          refine wq_iconst (pc := 50) dX3_rayLine_50 csti1 ?_
          refine wq_goto (pc := 51) (tgt := 55) dX3_rayLine_51 rfl ?_
          refine wq_istore (L' := [some (.ref o), some (.int x1), some (.int x2), some (.int x3), some (.int (1 : Int32)), none, none]) (pc := 55) dX3_rayLine_55 (Nat.le_of_ble_eq_true rfl) rfl ?_
          refine wq_iload (pc := 57) dX3_rayLine_57 rfl ?_
          refine wq_if_eq (pc := 59) (tgt := 66) dX3_rayLine_59 rfl (fun c => ?_) (fun c => ?_)
          · have V := V.1 c
            exact V
          · have V := V.2 c
            refine wq_aload_n (pc := 62) dX3_rayLine_62 rfl rfl ?_
            refine tcq1847 (pc := 63) (As := []) (st := []) rfl dX3_rayLine_63 rfl (Nat.le_of_ble_eq_true rfl) V (tw_kv (fun s4 V => ?_))
            exact V
      · have V := V.2 c
        refine wq_vret (pc := 40) dX3_rayLine_40 rfl ⟨_, rfl, rfl, V⟩
    · have V := V.2 c
      refine wq_aload_n (pc := 29) dX3_rayLine_29 rfl rfl ?_
      refine tcq1952 (pc := 30) (As := []) (st := []) rfl dX3_rayLine_30 rfl (Nat.le_of_ble_eq_true rfl) V (tw_kv (fun s5 V => ?_))
      refine wq_aload_n (pc := 33) dX3_rayLine_33 rfl rfl ?_
      refine tg13 (pc := 34) rfl dX3_rayLine_34 ?_
      refine wq_if_eq (pc := 37) (tgt := 41) dX3_rayLine_37 rfl (fun c => ?_) (fun c => ?_)
      · have V := V.1 c
        refine wq_aload_n (pc := 41) dX3_rayLine_41 rfl rfl ?_
        refine tg6 (pc := 42) rfl dX3_rayLine_42 ?_
        refine wq_bipush (pc := 45) dX3_rayLine_45 cstb45 ?_
        refine wq_icmp_ne (pc := 47) (tgt := 54) dX3_rayLine_47 rfl (fun c => ?_) (fun c => ?_)
        · have V := V.1 c
          refine wq_iconst (pc := 54) dX3_rayLine_54 csti0 ?_
          refine wq_istore (L' := [some (.ref o), some (.int x1), some (.int x2), some (.int x3), some (.int (0 : Int32)), none, none]) (pc := 55) dX3_rayLine_55 (Nat.le_of_ble_eq_true rfl) rfl ?_
          refine wq_iload (pc := 57) dX3_rayLine_57 rfl ?_
          refine wq_if_eq (pc := 59) (tgt := 66) dX3_rayLine_59 rfl (fun c => ?_) (fun c => ?_)
          · have V := V.1 c
            exact V
          · have V := V.2 c
            refine wq_aload_n (pc := 62) dX3_rayLine_62 rfl rfl ?_
            refine tcq1847 (pc := 63) (As := []) (st := []) rfl dX3_rayLine_63 rfl (Nat.le_of_ble_eq_true rfl) V (tw_kv (fun s6 V => ?_))
            exact V
        · have V := V.2 c
          refine wq_iconst (pc := 50) dX3_rayLine_50 csti1 ?_
          refine wq_goto (pc := 51) (tgt := 55) dX3_rayLine_51 rfl ?_
          refine wq_istore (L' := [some (.ref o), some (.int x1), some (.int x2), some (.int x3), some (.int (1 : Int32)), none, none]) (pc := 55) dX3_rayLine_55 (Nat.le_of_ble_eq_true rfl) rfl ?_
          refine wq_iload (pc := 57) dX3_rayLine_57 rfl ?_
          refine wq_if_eq (pc := 59) (tgt := 66) dX3_rayLine_59 rfl (fun c => ?_) (fun c => ?_)
          · have V := V.1 c
            exact V
          · have V := V.2 c
            refine wq_aload_n (pc := 62) dX3_rayLine_62 rfl rfl ?_
            refine tcq1847 (pc := 63) (As := []) (st := []) rfl dX3_rayLine_63 rfl (Nat.le_of_ble_eq_true rfl) V (tw_kv (fun s7 V => ?_))
            exact V
      · have V := V.2 c
        refine wq_vret (pc := 40) dX3_rayLine_40 rfl ⟨_, rfl, rfl, V⟩
theorem vX3_rayLine_66 {G : wq_G} {l : Launch} {o : Nat} {ad : Nat → Nat} {h : wq_H} {d : Nat} {K : tw_S → Prop} (ok : tw_ok G o ad)  {x1 : Int32} {x2 : Int32} {x3 : Int32} {x4 : Int32} {s : tw_S} (V : (¬ x3 = (3 : Int32) → tw_T G l o ad h d mX3_rayLine (tw_qv G o ad h K) 95 [some (.ref o), some (.int x1), some (.int x2), some (.int x3), some (.int x4), none, none] [.int (0 : Int32)] s) ∧ (x3 = (3 : Int32) → (¬ x2 = 0 → tw_T G l o ad h d mX3_rayLine (tw_qv G o ad h K) 95 [some (.ref o), some (.int x1), some (.int x2), some (.int x3), some (.int x4), none, none] [.int (0 : Int32)] s) ∧ (x2 = 0 → (¬ (s.1 6) = (3 : Int32) → tw_T G l o ad h d mX3_rayLine (tw_qv G o ad h K) 95 [some (.ref o), some (.int x1), some (.int x2), some (.int x3), some (.int x4), none, none] [.int (0 : Int32)] s) ∧ ((s.1 6) = (3 : Int32) → (¬ (s.1 7) = 0 → tw_T G l o ad h d mX3_rayLine (tw_qv G o ad h K) 95 [some (.ref o), some (.int x1), some (.int x2), some (.int x3), some (.int x4), none, none] [.int (0 : Int32)] s) ∧ ((s.1 7) = 0 → tw_T G l o ad h d mX3_rayLine (tw_qv G o ad h K) 95 [some (.ref o), some (.int x1), some (.int x2), some (.int x3), some (.int x4), none, none] [.int (1 : Int32)] s))))) : tw_T G l o ad h d mX3_rayLine (tw_qv G o ad h K) 66 [some (.ref o), some (.int x1), some (.int x2), some (.int x3), some (.int x4), none, none] [] s := by
  refine wq_iload_n (pc := 66) dX3_rayLine_66 rfl rfl ?_
  refine wq_iconst (pc := 67) dX3_rayLine_67 csti3 ?_
  refine wq_icmp_ne (pc := 68) (tgt := 94) dX3_rayLine_68 rfl (fun c => ?_) (fun c => ?_)
  · have V := V.1 c
    refine wq_iconst (pc := 94) dX3_rayLine_94 csti0 ?_
    exact V
  · have V := V.2 c
    refine wq_iload_n (pc := 71) dX3_rayLine_71 rfl rfl ?_
    refine wq_if_ne (pc := 72) (tgt := 94) dX3_rayLine_72 rfl (fun c => ?_) (fun c => ?_)
    · have V := V.1 c
      refine wq_iconst (pc := 94) dX3_rayLine_94 csti0 ?_
      exact V
    · have V := V.2 c
      refine wq_aload_n (pc := 75) dX3_rayLine_75 rfl rfl ?_
      refine tg6 (pc := 76) rfl dX3_rayLine_76 ?_
      refine wq_iconst (pc := 79) dX3_rayLine_79 csti3 ?_
      refine wq_icmp_ne (pc := 80) (tgt := 94) dX3_rayLine_80 rfl (fun c => ?_) (fun c => ?_)
      · have V := V.1 c
        refine wq_iconst (pc := 94) dX3_rayLine_94 csti0 ?_
        exact V
      · have V := V.2 c
        refine wq_aload_n (pc := 83) dX3_rayLine_83 rfl rfl ?_
        refine tg7 (pc := 84) rfl dX3_rayLine_84 ?_
        refine wq_if_ne (pc := 87) (tgt := 94) dX3_rayLine_87 rfl (fun c => ?_) (fun c => ?_)
        · have V := V.1 c
          refine wq_iconst (pc := 94) dX3_rayLine_94 csti0 ?_
          exact V
        · have V := V.2 c
          refine wq_iconst (pc := 90) dX3_rayLine_90 csti1 ?_
          refine wq_goto (pc := 91) (tgt := 95) dX3_rayLine_91 rfl ?_
          exact V
theorem vX3_rayLine_95 {G : wq_G} {l : Launch} {o : Nat} {ad : Nat → Nat} {h : wq_H} {d : Nat} {K : tw_S → Prop} (ok : tw_ok G o ad)  {x1 : Int32} {x2 : Int32} {x3 : Int32} {x4 : Int32} {z0 : Int32} {s : tw_S} (V : (z0 = 0 → tw_ci G l o ad h d mX3_number [.ref o, .int (0 : Int32), .int (3 : Int32)] s (fun y2 s1 => (¬ x2 = 0 → tw_T G l o ad h d mX3_rayLine (tw_qv G o ad h K) 133 [some (.ref o), some (.int x1), none, some (.int x3), some (.int x4), none, some (.int y2)] [.int (1 : Int32)] s1) ∧ (x2 = 0 → (y2 ≤ 0 → tw_T G l o ad h d mX3_rayLine (tw_qv G o ad h K) 133 [some (.ref o), some (.int x1), none, some (.int x3), some (.int x4), none, some (.int y2)] [.int (0 : Int32)] s1) ∧ (¬ y2 ≤ 0 → tw_T G l o ad h d mX3_rayLine (tw_qv G o ad h K) 133 [some (.ref o), some (.int x1), none, some (.int x3), some (.int x4), none, some (.int y2)] [.int (1 : Int32)] s1)))) ∧ (¬ z0 = 0 → tw_cv G l o ad h d mX3_wrong [.ref o, .int (4 : Int32), .int (s.1 4)] s (fun s3 => tw_ci G l o ad h d mX3_number [.ref o, .int (0 : Int32), .int (3 : Int32)] s3 (fun y5 s4 => (¬ x2 = 0 → tw_T G l o ad h d mX3_rayLine (tw_qv G o ad h K) 133 [some (.ref o), some (.int x1), none, some (.int x3), some (.int x4), none, some (.int y5)] [.int (1 : Int32)] s4) ∧ (x2 = 0 → (y5 ≤ 0 → tw_T G l o ad h d mX3_rayLine (tw_qv G o ad h K) 133 [some (.ref o), some (.int x1), none, some (.int x3), some (.int x4), none, some (.int y5)] [.int (0 : Int32)] s4) ∧ (¬ y5 ≤ 0 → tw_T G l o ad h d mX3_rayLine (tw_qv G o ad h K) 133 [some (.ref o), some (.int x1), none, some (.int x3), some (.int x4), none, some (.int y5)] [.int (1 : Int32)] s4)))))) : tw_T G l o ad h d mX3_rayLine (tw_qv G o ad h K) 95 [some (.ref o), some (.int x1), some (.int x2), some (.int x3), some (.int x4), none, none] [.int z0] s := by
  refine wq_istore (L' := [some (.ref o), some (.int x1), some (.int x2), some (.int x3), some (.int x4), some (.int z0), none]) (pc := 95) dX3_rayLine_95 (Nat.le_of_ble_eq_true rfl) rfl ?_
  refine wq_iload (pc := 97) dX3_rayLine_97 rfl ?_
  refine wq_if_eq (pc := 99) (tgt := 111) dX3_rayLine_99 rfl (fun c => ?_) (fun c => ?_)
  · have V := V.1 c
    refine wq_aload_n (pc := 111) dX3_rayLine_111 rfl rfl ?_
    refine wq_iconst (pc := 112) dX3_rayLine_112 csti0 ?_
    refine wq_iconst (pc := 113) dX3_rayLine_113 csti3 ?_
    refine tcq1910 (pc := 114) (As := [.int (0 : Int32), .int (3 : Int32)]) (st := []) rfl dX3_rayLine_114 rfl (Nat.le_of_ble_eq_true rfl) V (tw_ki (fun y2 s1 V => ?_))
    refine wq_istore (L' := [some (.ref o), some (.int x1), some (.int x2), some (.int x3), some (.int x4), some (.int z0), some (.int y2)]) (pc := 117) dX3_rayLine_117 (Nat.le_of_ble_eq_true rfl) rfl ?_
    refine wq_iload_n (pc := 119) dX3_rayLine_119 rfl rfl ?_
    refine wq_if_ne (pc := 120) (tgt := 128) dX3_rayLine_120 rfl (fun c => ?_) (fun c => ?_)
    · have V := V.1 c
      refine wq_iconst (pc := 128) dX3_rayLine_128 csti1 ?_
      refine wq_goto (pc := 129) (tgt := 133) dX3_rayLine_129 rfl ?_
      exact wq_T.less V ⟨rfl, ⟨rfl, ⟨rfl, ⟨rfl, ⟨rfl, trivial⟩⟩⟩⟩⟩
    · have V := V.2 c
      refine wq_iload (pc := 123) dX3_rayLine_123 rfl ?_
      refine wq_if_le (pc := 125) (tgt := 132) dX3_rayLine_125 rfl (fun c => ?_) (fun c => ?_)
      · have V := V.1 c
        refine wq_iconst (pc := 132) dX3_rayLine_132 csti0 ?_
        exact wq_T.less V ⟨rfl, ⟨rfl, ⟨rfl, ⟨rfl, ⟨rfl, trivial⟩⟩⟩⟩⟩
      · have V := V.2 c
        refine wq_iconst (pc := 128) dX3_rayLine_128 csti1 ?_
        refine wq_goto (pc := 129) (tgt := 133) dX3_rayLine_129 rfl ?_
        exact wq_T.less V ⟨rfl, ⟨rfl, ⟨rfl, ⟨rfl, ⟨rfl, trivial⟩⟩⟩⟩⟩
  · have V := V.2 c
    refine wq_aload_n (pc := 102) dX3_rayLine_102 rfl rfl ?_
    refine wq_iconst (pc := 103) dX3_rayLine_103 csti4 ?_
    refine wq_aload_n (pc := 104) dX3_rayLine_104 rfl rfl ?_
    refine tg4 (pc := 105) rfl dX3_rayLine_105 ?_
    refine tcq1893 (pc := 108) (As := [.int (4 : Int32), .int (s.1 4)]) (st := []) rfl dX3_rayLine_108 rfl (Nat.le_of_ble_eq_true rfl) V (tw_kv (fun s3 V => ?_))
    refine wq_aload_n (pc := 111) dX3_rayLine_111 rfl rfl ?_
    refine wq_iconst (pc := 112) dX3_rayLine_112 csti0 ?_
    refine wq_iconst (pc := 113) dX3_rayLine_113 csti3 ?_
    refine tcq1910 (pc := 114) (As := [.int (0 : Int32), .int (3 : Int32)]) (st := []) rfl dX3_rayLine_114 rfl (Nat.le_of_ble_eq_true rfl) V (tw_ki (fun y5 s4 V => ?_))
    refine wq_istore (L' := [some (.ref o), some (.int x1), some (.int x2), some (.int x3), some (.int x4), some (.int z0), some (.int y5)]) (pc := 117) dX3_rayLine_117 (Nat.le_of_ble_eq_true rfl) rfl ?_
    refine wq_iload_n (pc := 119) dX3_rayLine_119 rfl rfl ?_
    refine wq_if_ne (pc := 120) (tgt := 128) dX3_rayLine_120 rfl (fun c => ?_) (fun c => ?_)
    · have V := V.1 c
      refine wq_iconst (pc := 128) dX3_rayLine_128 csti1 ?_
      refine wq_goto (pc := 129) (tgt := 133) dX3_rayLine_129 rfl ?_
      exact wq_T.less V ⟨rfl, ⟨rfl, ⟨rfl, ⟨rfl, ⟨rfl, trivial⟩⟩⟩⟩⟩
    · have V := V.2 c
      refine wq_iload (pc := 123) dX3_rayLine_123 rfl ?_
      refine wq_if_le (pc := 125) (tgt := 132) dX3_rayLine_125 rfl (fun c => ?_) (fun c => ?_)
      · have V := V.1 c
        refine wq_iconst (pc := 132) dX3_rayLine_132 csti0 ?_
        exact wq_T.less V ⟨rfl, ⟨rfl, ⟨rfl, ⟨rfl, ⟨rfl, trivial⟩⟩⟩⟩⟩
      · have V := V.2 c
        refine wq_iconst (pc := 128) dX3_rayLine_128 csti1 ?_
        refine wq_goto (pc := 129) (tgt := 133) dX3_rayLine_129 rfl ?_
        exact wq_T.less V ⟨rfl, ⟨rfl, ⟨rfl, ⟨rfl, ⟨rfl, trivial⟩⟩⟩⟩⟩
theorem vX3_rayLine_133 {G : wq_G} {l : Launch} {o : Nat} {ad : Nat → Nat} {h : wq_H} {d : Nat} {K : tw_S → Prop} (ok : tw_ok G o ad)  {x1 : Int32} {x3 : Int32} {x4 : Int32} {x6 : Int32} {z0 : Int32} {s : tw_S} (V : (x4 = 0 → tw_st s 16 (((86 : Int32) + ((4 : Int32) * x1)) + x3) x6 (fun s1 => tw_T G l o ad h d mX3_rayLine (tw_qv G o ad h K) 20 [some (.ref o), some (.int x1), some (.int z0), some (.int (x3 + (1 : Int32))), none, none, none] [] s1)) ∧ (¬ x4 = 0 → tw_st s 16 (((86 : Int32) + ((4 : Int32) * x1)) + x3) (-x6) (fun s2 => tw_T G l o ad h d mX3_rayLine (tw_qv G o ad h K) 20 [some (.ref o), some (.int x1), some (.int z0), some (.int (x3 + (1 : Int32))), none, none, none] [] s2))) : tw_T G l o ad h d mX3_rayLine (tw_qv G o ad h K) 133 [some (.ref o), some (.int x1), none, some (.int x3), some (.int x4), none, some (.int x6)] [.int z0] s := by
  refine wq_istore_n (L' := [some (.ref o), some (.int x1), some (.int z0), some (.int x3), some (.int x4), none, some (.int x6)]) (pc := 133) dX3_rayLine_133 rfl (Nat.le_of_ble_eq_true rfl) rfl ?_
  refine wq_aload_n (pc := 134) dX3_rayLine_134 rfl rfl ?_
  refine tg16 (pc := 135) rfl dX3_rayLine_135 ?_
  refine wq_bipush (pc := 138) dX3_rayLine_138 cstb86 ?_
  refine wq_iconst (pc := 140) dX3_rayLine_140 csti4 ?_
  refine wq_iload_n (pc := 141) dX3_rayLine_141 rfl rfl ?_
  refine wq_imul (pc := 142) dX3_rayLine_142 ?_
  refine wq_iadd (pc := 143) dX3_rayLine_143 ?_
  refine wq_iload_n (pc := 144) dX3_rayLine_144 rfl rfl ?_
  refine wq_iadd (pc := 145) dX3_rayLine_145 ?_
  refine wq_iload (pc := 146) dX3_rayLine_146 rfl ?_
  refine wq_if_eq (pc := 148) (tgt := 157) dX3_rayLine_148 rfl (fun c => ?_) (fun c => ?_)
  · have V := V.1 c
    refine wq_iload (pc := 157) dX3_rayLine_157 rfl ?_
    refine tw_iast' (pc := 159) ok mia16 dX3_rayLine_159 V (fun s1 V => ?_)
    refine wq_iinc (L' := [some (.ref o), some (.int x1), some (.int z0), some (.int (x3 + (1 : Int32))), some (.int x4), none, some (.int x6)]) (pc := 160) dX3_rayLine_160 rfl (by rw [csti1]) (Nat.le_of_ble_eq_true rfl) rfl ?_
    refine wq_goto (pc := 163) (tgt := 20) dX3_rayLine_163 rfl ?_
    exact wq_T.less V ⟨rfl, ⟨rfl, ⟨rfl, ⟨rfl, trivial⟩⟩⟩⟩
  · have V := V.2 c
    refine wq_iload (pc := 151) dX3_rayLine_151 rfl ?_
    refine wq_ineg (pc := 153) dX3_rayLine_153 ?_
    refine wq_goto (pc := 154) (tgt := 159) dX3_rayLine_154 rfl ?_
    refine tw_iast' (pc := 159) ok mia16 dX3_rayLine_159 V (fun s2 V => ?_)
    refine wq_iinc (L' := [some (.ref o), some (.int x1), some (.int z0), some (.int (x3 + (1 : Int32))), some (.int x4), none, some (.int x6)]) (pc := 160) dX3_rayLine_160 rfl (by rw [csti1]) (Nat.le_of_ble_eq_true rfl) rfl ?_
    refine wq_goto (pc := 163) (tgt := 20) dX3_rayLine_163 rfl ?_
    exact wq_T.less V ⟨rfl, ⟨rfl, ⟨rfl, ⟨rfl, trivial⟩⟩⟩⟩
theorem vX3_runLine_0 {G : wq_G} {l : Launch} {o : Nat} {ad : Nat → Nat} {h : wq_H} {d : Nat} {K : tw_S → Prop} (ok : tw_ok G o ad)   {s : tw_S} (V : ((s.1 13) = 0 → tw_ld s 16 (158 : Int32) (fun y1 => tw_T G l o ad h d mX3_runLine (tw_qv G o ad h K) 21 [some (.ref o), some (.int y1), some (.int (0 : Int32)), some (.int (1 : Int32)), none] [] s)) ∧ (¬ (s.1 13) = 0 → K s)) : tw_T G l o ad h d mX3_runLine (tw_qv G o ad h K) 0 [some (.ref o), none, none, none, none] [] s := by
  refine wq_aload_n (pc := 0) dX3_runLine_0 rfl rfl ?_
  refine tg13 (pc := 1) rfl dX3_runLine_1 ?_
  refine wq_if_eq (pc := 4) (tgt := 8) dX3_runLine_4 rfl (fun c => ?_) (fun c => ?_)
  · have V := V.1 c
    refine wq_aload_n (pc := 8) dX3_runLine_8 rfl rfl ?_
    refine tg16 (pc := 9) rfl dX3_runLine_9 ?_
    refine wq_sipush (pc := 12) dX3_runLine_12 csts158 ?_
    refine tw_iald' (pc := 15) ok mia16 dX3_runLine_15 V (fun y1 V => ?_)
    refine wq_istore_n (L' := [some (.ref o), some (.int y1), none, none, none]) (pc := 16) dX3_runLine_16 rfl (Nat.le_of_ble_eq_true rfl) rfl ?_
    refine wq_iconst (pc := 17) dX3_runLine_17 csti0 ?_
    refine wq_istore_n (L' := [some (.ref o), some (.int y1), some (.int (0 : Int32)), none, none]) (pc := 18) dX3_runLine_18 rfl (Nat.le_of_ble_eq_true rfl) rfl ?_
    refine wq_iconst (pc := 19) dX3_runLine_19 csti1 ?_
    refine wq_istore_n (L' := [some (.ref o), some (.int y1), some (.int (0 : Int32)), some (.int (1 : Int32)), none]) (pc := 20) dX3_runLine_20 rfl (Nat.le_of_ble_eq_true rfl) rfl ?_
    exact V
  · have V := V.2 c
    refine wq_vret (pc := 7) dX3_runLine_7 rfl ⟨_, rfl, rfl, V⟩
theorem vX3_runLine_21 {G : wq_G} {l : Launch} {o : Nat} {ad : Nat → Nat} {h : wq_H} {d : Nat} {K : tw_S → Prop} (ok : tw_ok G o ad)  {x1 : Int32} {x2 : Int32} {x3 : Int32} {s : tw_S} (V : (x3 = 0 → tw_st s 16 ((159 : Int32) + x1) x2 (fun s1 => tw_ld s1 16 (158 : Int32) (fun y2 => tw_st s1 16 (158 : Int32) (y2 + (1 : Int32)) (fun s3 => K s3)))) ∧ (¬ x3 = 0 → tw_ci G l o ad h d mX3_named [.ref o, .int (1 : Int32), .int (0 : Int32)] s (fun y5 s4 => (¬ (s4.1 13) = 0 → ((s4.1 13) = 0 → tw_cv G l o ad h d mX3_next [.ref o] s4 (fun s6 => tw_st s6 16 (((163 : Int32) + ((6 : Int32) * x1)) + x2) y5 (fun s7 => tw_ci G l o ad h d mX3_number [.ref o, .int (0 : Int32), .int (1 : Int32)] s7 (fun y9 s8 => tw_st s8 16 (((187 : Int32) + ((6 : Int32) * x1)) + x2) y9 (fun s10 => tw_ci G l o ad h d mX3_comma [.ref o] s10 (fun y12 s11 => tw_T G l o ad h d mX3_runLine (tw_qv G o ad h K) 21 [some (.ref o), some (.int x1), some (.int (x2 + (1 : Int32))), some (.int y12), none] [] s11)))))) ∧ (¬ (s4.1 13) = 0 → K s4)) ∧ ((s4.1 13) = 0 → (¬ x2 = (6 : Int32) → ((s4.1 13) = 0 → tw_cv G l o ad h d mX3_next [.ref o] s4 (fun s13 => tw_st s13 16 (((163 : Int32) + ((6 : Int32) * x1)) + x2) y5 (fun s14 => tw_ci G l o ad h d mX3_number [.ref o, .int (0 : Int32), .int (1 : Int32)] s14 (fun y16 s15 => tw_st s15 16 (((187 : Int32) + ((6 : Int32) * x1)) + x2) y16 (fun s17 => tw_ci G l o ad h d mX3_comma [.ref o] s17 (fun y19 s18 => tw_T G l o ad h d mX3_runLine (tw_qv G o ad h K) 21 [some (.ref o), some (.int x1), some (.int (x2 + (1 : Int32))), some (.int y19), none] [] s18)))))) ∧ (¬ (s4.1 13) = 0 → K s4)) ∧ (x2 = (6 : Int32) → tw_cv G l o ad h d mX3_wrong [.ref o, .int (5 : Int32), .int (s4.1 4)] s4 (fun s20 => ((s20.1 13) = 0 → tw_cv G l o ad h d mX3_next [.ref o] s20 (fun s21 => tw_st s21 16 (((163 : Int32) + ((6 : Int32) * x1)) + x2) y5 (fun s22 => tw_ci G l o ad h d mX3_number [.ref o, .int (0 : Int32), .int (1 : Int32)] s22 (fun y24 s23 => tw_st s23 16 (((187 : Int32) + ((6 : Int32) * x1)) + x2) y24 (fun s25 => tw_ci G l o ad h d mX3_comma [.ref o] s25 (fun y27 s26 => tw_T G l o ad h d mX3_runLine (tw_qv G o ad h K) 21 [some (.ref o), some (.int x1), some (.int (x2 + (1 : Int32))), some (.int y27), none] [] s26)))))) ∧ (¬ (s20.1 13) = 0 → K s20))))))) : tw_T G l o ad h d mX3_runLine (tw_qv G o ad h K) 21 [some (.ref o), some (.int x1), some (.int x2), some (.int x3), none] [] s := by
  refine wq_iload_n (pc := 21) dX3_runLine_21 rfl rfl ?_
  refine wq_if_eq (pc := 22) (tgt := 116) dX3_runLine_22 rfl (fun c => ?_) (fun c => ?_)
  · have V := V.1 c
    refine wq_aload_n (pc := 116) dX3_runLine_116 rfl rfl ?_
    refine tg16 (pc := 117) rfl dX3_runLine_117 ?_
    refine wq_sipush (pc := 120) dX3_runLine_120 csts159 ?_
    refine wq_iload_n (pc := 123) dX3_runLine_123 rfl rfl ?_
    refine wq_iadd (pc := 124) dX3_runLine_124 ?_
    refine wq_iload_n (pc := 125) dX3_runLine_125 rfl rfl ?_
    refine tw_iast' (pc := 126) ok mia16 dX3_runLine_126 V (fun s1 V => ?_)
    refine wq_aload_n (pc := 127) dX3_runLine_127 rfl rfl ?_
    refine tg16 (pc := 128) rfl dX3_runLine_128 ?_
    refine wq_sipush (pc := 131) dX3_runLine_131 csts158 ?_
    refine wq_dup2 (pc := 134) dX3_runLine_134 rfl rfl ?_
    refine tw_iald' (pc := 135) ok mia16 dX3_runLine_135 V (fun y2 V => ?_)
    refine wq_iconst (pc := 136) dX3_runLine_136 csti1 ?_
    refine wq_iadd (pc := 137) dX3_runLine_137 ?_
    refine tw_iast' (pc := 138) ok mia16 dX3_runLine_138 V (fun s3 V => ?_)
    refine wq_vret (pc := 139) dX3_runLine_139 rfl ⟨_, rfl, rfl, V⟩
  · have V := V.2 c
    refine wq_aload_n (pc := 25) dX3_runLine_25 rfl rfl ?_
    refine wq_iconst (pc := 26) dX3_runLine_26 csti1 ?_
    refine wq_iconst (pc := 27) dX3_runLine_27 csti0 ?_
    refine tcq1944 (pc := 28) (As := [.int (1 : Int32), .int (0 : Int32)]) (st := []) rfl dX3_runLine_28 rfl (Nat.le_of_ble_eq_true rfl) V (tw_ki (fun y5 s4 V => ?_))
    refine wq_istore (L' := [some (.ref o), some (.int x1), some (.int x2), some (.int x3), some (.int y5)]) (pc := 31) dX3_runLine_31 (Nat.le_of_ble_eq_true rfl) rfl ?_
    refine wq_aload_n (pc := 33) dX3_runLine_33 rfl rfl ?_
    refine tg13 (pc := 34) rfl dX3_runLine_34 ?_
    refine wq_if_ne (pc := 37) (tgt := 55) dX3_runLine_37 rfl (fun c => ?_) (fun c => ?_)
    · have V := V.1 c
      refine wq_aload_n (pc := 55) dX3_runLine_55 rfl rfl ?_
      refine tg13 (pc := 56) rfl dX3_runLine_56 ?_
      refine wq_if_eq (pc := 59) (tgt := 63) dX3_runLine_59 rfl (fun c => ?_) (fun c => ?_)
      · have V := V.1 c
        refine wq_aload_n (pc := 63) dX3_runLine_63 rfl rfl ?_
        refine tcq1847 (pc := 64) (As := []) (st := []) rfl dX3_runLine_64 rfl (Nat.le_of_ble_eq_true rfl) V (tw_kv (fun s6 V => ?_))
        refine wq_aload_n (pc := 67) dX3_runLine_67 rfl rfl ?_
        refine tg16 (pc := 68) rfl dX3_runLine_68 ?_
        refine wq_sipush (pc := 71) dX3_runLine_71 csts163 ?_
        refine wq_bipush (pc := 74) dX3_runLine_74 cstb6 ?_
        refine wq_iload_n (pc := 76) dX3_runLine_76 rfl rfl ?_
        refine wq_imul (pc := 77) dX3_runLine_77 ?_
        refine wq_iadd (pc := 78) dX3_runLine_78 ?_
        refine wq_iload_n (pc := 79) dX3_runLine_79 rfl rfl ?_
        refine wq_iadd (pc := 80) dX3_runLine_80 ?_
        refine wq_iload (pc := 81) dX3_runLine_81 rfl ?_
        refine tw_iast' (pc := 83) ok mia16 dX3_runLine_83 V (fun s7 V => ?_)
        refine wq_aload_n (pc := 84) dX3_runLine_84 rfl rfl ?_
        refine tg16 (pc := 85) rfl dX3_runLine_85 ?_
        refine wq_sipush (pc := 88) dX3_runLine_88 csts187 ?_
        refine wq_bipush (pc := 91) dX3_runLine_91 cstb6 ?_
        refine wq_iload_n (pc := 93) dX3_runLine_93 rfl rfl ?_
        refine wq_imul (pc := 94) dX3_runLine_94 ?_
        refine wq_iadd (pc := 95) dX3_runLine_95 ?_
        refine wq_iload_n (pc := 96) dX3_runLine_96 rfl rfl ?_
        refine wq_iadd (pc := 97) dX3_runLine_97 ?_
        refine wq_aload_n (pc := 98) dX3_runLine_98 rfl rfl ?_
        refine wq_iconst (pc := 99) dX3_runLine_99 csti0 ?_
        refine wq_iconst (pc := 100) dX3_runLine_100 csti1 ?_
        refine tcq1910 (pc := 101) (As := [.int (0 : Int32), .int (1 : Int32)]) (st := [.int (((187 : Int32) + ((6 : Int32) * x1)) + x2), .ref (ad 16)]) rfl dX3_runLine_101 rfl (Nat.le_of_ble_eq_true rfl) V (tw_ki (fun y9 s8 V => ?_))
        refine tw_iast' (pc := 104) ok mia16 dX3_runLine_104 V (fun s10 V => ?_)
        refine wq_iinc (L' := [some (.ref o), some (.int x1), some (.int (x2 + (1 : Int32))), some (.int x3), some (.int y5)]) (pc := 105) dX3_runLine_105 rfl (by rw [csti1]) (Nat.le_of_ble_eq_true rfl) rfl ?_
        refine wq_aload_n (pc := 108) dX3_runLine_108 rfl rfl ?_
        refine tcq1932 (pc := 109) (As := []) (st := []) rfl dX3_runLine_109 rfl (Nat.le_of_ble_eq_true rfl) V (tw_ki (fun y12 s11 V => ?_))
        refine wq_istore_n (L' := [some (.ref o), some (.int x1), some (.int (x2 + (1 : Int32))), some (.int y12), some (.int y5)]) (pc := 112) dX3_runLine_112 rfl (Nat.le_of_ble_eq_true rfl) rfl ?_
        refine wq_goto (pc := 113) (tgt := 21) dX3_runLine_113 rfl ?_
        exact wq_T.less V ⟨rfl, ⟨rfl, ⟨rfl, ⟨rfl, trivial⟩⟩⟩⟩
      · have V := V.2 c
        refine wq_vret (pc := 62) dX3_runLine_62 rfl ⟨_, rfl, rfl, V⟩
    · have V := V.2 c
      refine wq_iload_n (pc := 40) dX3_runLine_40 rfl rfl ?_
      refine wq_bipush (pc := 41) dX3_runLine_41 cstb6 ?_
      refine wq_icmp_ne (pc := 43) (tgt := 55) dX3_runLine_43 rfl (fun c => ?_) (fun c => ?_)
      · have V := V.1 c
        refine wq_aload_n (pc := 55) dX3_runLine_55 rfl rfl ?_
        refine tg13 (pc := 56) rfl dX3_runLine_56 ?_
        refine wq_if_eq (pc := 59) (tgt := 63) dX3_runLine_59 rfl (fun c => ?_) (fun c => ?_)
        · have V := V.1 c
          refine wq_aload_n (pc := 63) dX3_runLine_63 rfl rfl ?_
          refine tcq1847 (pc := 64) (As := []) (st := []) rfl dX3_runLine_64 rfl (Nat.le_of_ble_eq_true rfl) V (tw_kv (fun s13 V => ?_))
          refine wq_aload_n (pc := 67) dX3_runLine_67 rfl rfl ?_
          refine tg16 (pc := 68) rfl dX3_runLine_68 ?_
          refine wq_sipush (pc := 71) dX3_runLine_71 csts163 ?_
          refine wq_bipush (pc := 74) dX3_runLine_74 cstb6 ?_
          refine wq_iload_n (pc := 76) dX3_runLine_76 rfl rfl ?_
          refine wq_imul (pc := 77) dX3_runLine_77 ?_
          refine wq_iadd (pc := 78) dX3_runLine_78 ?_
          refine wq_iload_n (pc := 79) dX3_runLine_79 rfl rfl ?_
          refine wq_iadd (pc := 80) dX3_runLine_80 ?_
          refine wq_iload (pc := 81) dX3_runLine_81 rfl ?_
          refine tw_iast' (pc := 83) ok mia16 dX3_runLine_83 V (fun s14 V => ?_)
          refine wq_aload_n (pc := 84) dX3_runLine_84 rfl rfl ?_
          refine tg16 (pc := 85) rfl dX3_runLine_85 ?_
          refine wq_sipush (pc := 88) dX3_runLine_88 csts187 ?_
          refine wq_bipush (pc := 91) dX3_runLine_91 cstb6 ?_
          refine wq_iload_n (pc := 93) dX3_runLine_93 rfl rfl ?_
          refine wq_imul (pc := 94) dX3_runLine_94 ?_
          refine wq_iadd (pc := 95) dX3_runLine_95 ?_
          refine wq_iload_n (pc := 96) dX3_runLine_96 rfl rfl ?_
          refine wq_iadd (pc := 97) dX3_runLine_97 ?_
          refine wq_aload_n (pc := 98) dX3_runLine_98 rfl rfl ?_
          refine wq_iconst (pc := 99) dX3_runLine_99 csti0 ?_
          refine wq_iconst (pc := 100) dX3_runLine_100 csti1 ?_
          refine tcq1910 (pc := 101) (As := [.int (0 : Int32), .int (1 : Int32)]) (st := [.int (((187 : Int32) + ((6 : Int32) * x1)) + x2), .ref (ad 16)]) rfl dX3_runLine_101 rfl (Nat.le_of_ble_eq_true rfl) V (tw_ki (fun y16 s15 V => ?_))
          refine tw_iast' (pc := 104) ok mia16 dX3_runLine_104 V (fun s17 V => ?_)
          refine wq_iinc (L' := [some (.ref o), some (.int x1), some (.int (x2 + (1 : Int32))), some (.int x3), some (.int y5)]) (pc := 105) dX3_runLine_105 rfl (by rw [csti1]) (Nat.le_of_ble_eq_true rfl) rfl ?_
          refine wq_aload_n (pc := 108) dX3_runLine_108 rfl rfl ?_
          refine tcq1932 (pc := 109) (As := []) (st := []) rfl dX3_runLine_109 rfl (Nat.le_of_ble_eq_true rfl) V (tw_ki (fun y19 s18 V => ?_))
          refine wq_istore_n (L' := [some (.ref o), some (.int x1), some (.int (x2 + (1 : Int32))), some (.int y19), some (.int y5)]) (pc := 112) dX3_runLine_112 rfl (Nat.le_of_ble_eq_true rfl) rfl ?_
          refine wq_goto (pc := 113) (tgt := 21) dX3_runLine_113 rfl ?_
          exact wq_T.less V ⟨rfl, ⟨rfl, ⟨rfl, ⟨rfl, trivial⟩⟩⟩⟩
        · have V := V.2 c
          refine wq_vret (pc := 62) dX3_runLine_62 rfl ⟨_, rfl, rfl, V⟩
      · have V := V.2 c
        refine wq_aload_n (pc := 46) dX3_runLine_46 rfl rfl ?_
        refine wq_iconst (pc := 47) dX3_runLine_47 csti5 ?_
        refine wq_aload_n (pc := 48) dX3_runLine_48 rfl rfl ?_
        refine tg4 (pc := 49) rfl dX3_runLine_49 ?_
        refine tcq1893 (pc := 52) (As := [.int (5 : Int32), .int (s4.1 4)]) (st := []) rfl dX3_runLine_52 rfl (Nat.le_of_ble_eq_true rfl) V (tw_kv (fun s20 V => ?_))
        refine wq_aload_n (pc := 55) dX3_runLine_55 rfl rfl ?_
        refine tg13 (pc := 56) rfl dX3_runLine_56 ?_
        refine wq_if_eq (pc := 59) (tgt := 63) dX3_runLine_59 rfl (fun c => ?_) (fun c => ?_)
        · have V := V.1 c
          refine wq_aload_n (pc := 63) dX3_runLine_63 rfl rfl ?_
          refine tcq1847 (pc := 64) (As := []) (st := []) rfl dX3_runLine_64 rfl (Nat.le_of_ble_eq_true rfl) V (tw_kv (fun s21 V => ?_))
          refine wq_aload_n (pc := 67) dX3_runLine_67 rfl rfl ?_
          refine tg16 (pc := 68) rfl dX3_runLine_68 ?_
          refine wq_sipush (pc := 71) dX3_runLine_71 csts163 ?_
          refine wq_bipush (pc := 74) dX3_runLine_74 cstb6 ?_
          refine wq_iload_n (pc := 76) dX3_runLine_76 rfl rfl ?_
          refine wq_imul (pc := 77) dX3_runLine_77 ?_
          refine wq_iadd (pc := 78) dX3_runLine_78 ?_
          refine wq_iload_n (pc := 79) dX3_runLine_79 rfl rfl ?_
          refine wq_iadd (pc := 80) dX3_runLine_80 ?_
          refine wq_iload (pc := 81) dX3_runLine_81 rfl ?_
          refine tw_iast' (pc := 83) ok mia16 dX3_runLine_83 V (fun s22 V => ?_)
          refine wq_aload_n (pc := 84) dX3_runLine_84 rfl rfl ?_
          refine tg16 (pc := 85) rfl dX3_runLine_85 ?_
          refine wq_sipush (pc := 88) dX3_runLine_88 csts187 ?_
          refine wq_bipush (pc := 91) dX3_runLine_91 cstb6 ?_
          refine wq_iload_n (pc := 93) dX3_runLine_93 rfl rfl ?_
          refine wq_imul (pc := 94) dX3_runLine_94 ?_
          refine wq_iadd (pc := 95) dX3_runLine_95 ?_
          refine wq_iload_n (pc := 96) dX3_runLine_96 rfl rfl ?_
          refine wq_iadd (pc := 97) dX3_runLine_97 ?_
          refine wq_aload_n (pc := 98) dX3_runLine_98 rfl rfl ?_
          refine wq_iconst (pc := 99) dX3_runLine_99 csti0 ?_
          refine wq_iconst (pc := 100) dX3_runLine_100 csti1 ?_
          refine tcq1910 (pc := 101) (As := [.int (0 : Int32), .int (1 : Int32)]) (st := [.int (((187 : Int32) + ((6 : Int32) * x1)) + x2), .ref (ad 16)]) rfl dX3_runLine_101 rfl (Nat.le_of_ble_eq_true rfl) V (tw_ki (fun y24 s23 V => ?_))
          refine tw_iast' (pc := 104) ok mia16 dX3_runLine_104 V (fun s25 V => ?_)
          refine wq_iinc (L' := [some (.ref o), some (.int x1), some (.int (x2 + (1 : Int32))), some (.int x3), some (.int y5)]) (pc := 105) dX3_runLine_105 rfl (by rw [csti1]) (Nat.le_of_ble_eq_true rfl) rfl ?_
          refine wq_aload_n (pc := 108) dX3_runLine_108 rfl rfl ?_
          refine tcq1932 (pc := 109) (As := []) (st := []) rfl dX3_runLine_109 rfl (Nat.le_of_ble_eq_true rfl) V (tw_ki (fun y27 s26 V => ?_))
          refine wq_istore_n (L' := [some (.ref o), some (.int x1), some (.int (x2 + (1 : Int32))), some (.int y27), some (.int y5)]) (pc := 112) dX3_runLine_112 rfl (Nat.le_of_ble_eq_true rfl) rfl ?_
          refine wq_goto (pc := 113) (tgt := 21) dX3_runLine_113 rfl ?_
          exact wq_T.less V ⟨rfl, ⟨rfl, ⟨rfl, ⟨rfl, trivial⟩⟩⟩⟩
        · have V := V.2 c
          refine wq_vret (pc := 62) dX3_runLine_62 rfl ⟨_, rfl, rfl, V⟩
theorem vX3_noCoins_0 {G : wq_G} {l : Launch} {o : Nat} {ad : Nat → Nat} {h : wq_H} {d : Nat} {K : tw_S → Prop} (ok : tw_ok G o ad)   {s : tw_S} (V : tw_T G l o ad h d mX3_noCoins (tw_qv G o ad h K) 2 [some (.ref o), some (.int (0 : Int32))] [] s) : tw_T G l o ad h d mX3_noCoins (tw_qv G o ad h K) 0 [some (.ref o), none] [] s := by
  refine wq_iconst (pc := 0) dX3_noCoins_0 csti0 ?_
  refine wq_istore_n (L' := [some (.ref o), some (.int (0 : Int32))]) (pc := 1) dX3_noCoins_1 rfl (Nat.le_of_ble_eq_true rfl) rfl ?_
  exact V
theorem vX3_noCoins_2 {G : wq_G} {l : Launch} {o : Nat} {ad : Nat → Nat} {h : wq_H} {d : Nat} {K : tw_S → Prop} (ok : tw_ok G o ad)  {x1 : Int32} {s : tw_S} (V : ((32 : Int32) ≤ x1 → K s) ∧ (¬ (32 : Int32) ≤ x1 → tw_st s 17 x1 (0 : Int32) (fun s1 => tw_T G l o ad h d mX3_noCoins (tw_qv G o ad h K) 2 [some (.ref o), some (.int (x1 + (1 : Int32)))] [] s1))) : tw_T G l o ad h d mX3_noCoins (tw_qv G o ad h K) 2 [some (.ref o), some (.int x1)] [] s := by
  refine wq_iload_n (pc := 2) dX3_noCoins_2 rfl rfl ?_
  refine wq_bipush (pc := 3) dX3_noCoins_3 cstb32 ?_
  refine wq_icmp_ge (pc := 5) (tgt := 21) dX3_noCoins_5 rfl (fun c => ?_) (fun c => ?_)
  · have V := V.1 c
    refine wq_vret (pc := 21) dX3_noCoins_21 rfl ⟨_, rfl, rfl, V⟩
  · have V := V.2 c
    refine wq_aload_n (pc := 8) dX3_noCoins_8 rfl rfl ?_
    refine tg17 (pc := 9) rfl dX3_noCoins_9 ?_
    refine wq_iload_n (pc := 12) dX3_noCoins_12 rfl rfl ?_
    refine wq_iconst (pc := 13) dX3_noCoins_13 csti0 ?_
    refine tw_iast' (pc := 14) ok mia17 dX3_noCoins_14 V (fun s1 V => ?_)
    refine wq_iinc (L' := [some (.ref o), some (.int (x1 + (1 : Int32)))]) (pc := 15) dX3_noCoins_15 rfl (by rw [csti1]) (Nat.le_of_ble_eq_true rfl) rfl ?_
    refine wq_goto (pc := 18) (tgt := 2) dX3_noCoins_18 rfl ?_
    exact V
theorem vX3_fault_0 {G : wq_G} {l : Launch} {o : Nat} {ad : Nat → Nat} {h : wq_H} {d : Nat} {K : Int32 → tw_S → Prop} (ok : tw_ok G o ad)   {s : tw_S} (V : tw_pt s 0 (0 : Int32) (fun s1 => K (s1.1 9) s1)) : tw_T G l o ad h d mX3_fault (tw_qi G o ad h K) 0 [some (.ref o)] [] s := by
  refine wq_aload_n (pc := 0) dX3_fault_0 rfl rfl ?_
  refine wq_iconst (pc := 1) dX3_fault_1 csti0 ?_
  refine tp0 (pc := 2) rfl ok dX3_fault_2 V (fun s1 V => ?_)
  refine wq_aload_n (pc := 5) dX3_fault_5 rfl rfl ?_
  refine tg9 (pc := 6) rfl dX3_fault_6 ?_
  refine wq_iret (pc := 9) dX3_fault_9 rfl ⟨_, _, rfl, rfl, V⟩
theorem vX3_where_0 {G : wq_G} {l : Launch} {o : Nat} {ad : Nat → Nat} {h : wq_H} {d : Nat} {K : Int32 → tw_S → Prop} (ok : tw_ok G o ad)   {s : tw_S} (V : tw_pt s 0 (0 : Int32) (fun s1 => (¬ (s1.1 11) = (4 : Int32) → K (-1 : Int32) s1) ∧ ((s1.1 11) = (4 : Int32) → K (s1.1 10) s1))) : tw_T G l o ad h d mX3_where (tw_qi G o ad h K) 0 [some (.ref o)] [] s := by
  refine wq_aload_n (pc := 0) dX3_where_0 rfl rfl ?_
  refine wq_iconst (pc := 1) dX3_where_1 csti0 ?_
  refine tp0 (pc := 2) rfl ok dX3_where_2 V (fun s1 V => ?_)
  refine wq_aload_n (pc := 5) dX3_where_5 rfl rfl ?_
  refine tg11 (pc := 6) rfl dX3_where_6 ?_
  refine wq_iconst (pc := 9) dX3_where_9 csti4 ?_
  refine wq_icmp_ne (pc := 10) (tgt := 20) dX3_where_10 rfl (fun c => ?_) (fun c => ?_)
  · have V := V.1 c
    refine wq_iconst (pc := 20) dX3_where_20 cstim1 ?_
    refine wq_iret (pc := 21) dX3_where_21 rfl ⟨_, _, rfl, rfl, V⟩
  · have V := V.2 c
    refine wq_aload_n (pc := 13) dX3_where_13 rfl rfl ?_
    refine tg10 (pc := 14) rfl dX3_where_14 ?_
    refine wq_goto (pc := 17) (tgt := 21) dX3_where_17 rfl ?_
    refine wq_iret (pc := 21) dX3_where_21 rfl ⟨_, _, rfl, rfl, V⟩
theorem vX3_share_0 {G : wq_G} {l : Launch} {o : Nat} {ad : Nat → Nat} {h : wq_H} {d : Nat} {K : Int32 → tw_S → Prop} (ok : tw_ok G o ad)  {x1 : Int32} {s : tw_S} (V : tw_cv G l o ad h d mX3_good [.ref o] s (fun s1 => (¬ (s1.1 14) = 0 → tw_ci G l o ad h d mX3_isMixed [.ref o] s1 (fun y3 s2 => (y3 = 0 → tw_ci G l o ad h d mX3_cell [.int (s2.1 30), .int ((s2.1 31) - (1 : Int32))] s2 (fun y5 s4 => tw_ldl s4 y5 (fun y6 => tw_ld s4 15 (49 : Int32) (fun y7 => tw_ci G l o ad h d mX3_lowest [.long y6, .long (s4.2.2.2 * y7.toInt64), .int x1] s4 (fun y9 s8 => K y9 s8))))) ∧ (¬ y3 = 0 → K (1 : Int32) s2))) ∧ ((s1.1 14) = 0 → tw_ci G l o ad h d mX3_no [.ref o, .int (1 : Int32)] s1 (fun y11 s10 => K y11 s10)))) : tw_T G l o ad h d mX3_share (tw_qi G o ad h K) 0 [some (.ref o), some (.int x1)] [] s := by
  refine wq_aload_n (pc := 0) dX3_share_0 rfl rfl ?_
  refine tcq1836 (pc := 1) (As := []) (st := []) rfl dX3_share_1 rfl (Nat.le_of_ble_eq_true rfl) V (tw_kv (fun s1 V => ?_))
  refine wq_aload_n (pc := 4) dX3_share_4 rfl rfl ?_
  refine tg14 (pc := 5) rfl dX3_share_5 ?_
  refine wq_if_ne (pc := 8) (tgt := 17) dX3_share_8 rfl (fun c => ?_) (fun c => ?_)
  · have V := V.1 c
    refine wq_aload_n (pc := 17) dX3_share_17 rfl rfl ?_
    refine tcq1987 (pc := 18) (As := []) (st := []) rfl dX3_share_18 rfl (Nat.le_of_ble_eq_true rfl) V (tw_ki (fun y3 s2 V => ?_))
    refine wq_if_eq (pc := 21) (tgt := 26) dX3_share_21 rfl (fun c => ?_) (fun c => ?_)
    · have V := V.1 c
      refine wq_aload_n (pc := 26) dX3_share_26 rfl rfl ?_
      refine tg27 (pc := 27) rfl dX3_share_27 ?_
      refine wq_aload_n (pc := 30) dX3_share_30 rfl rfl ?_
      refine tg30 (pc := 31) rfl dX3_share_31 ?_
      refine wq_aload_n (pc := 34) dX3_share_34 rfl rfl ?_
      refine tg31 (pc := 35) rfl dX3_share_35 ?_
      refine wq_iconst (pc := 38) dX3_share_38 csti1 ?_
      refine wq_isub (pc := 39) dX3_share_39 ?_
      refine tcq2002 (pc := 40) (As := [.int (s2.1 30), .int ((s2.1 31) - (1 : Int32))]) (st := [.ref (ad 27)]) rfl dX3_share_40 rfl (Nat.le_of_ble_eq_true rfl) V (tw_ki (fun y5 s4 V => ?_))
      refine tw_lald' (pc := 43) ok dX3_share_43 V (fun y6 V => ?_)
      refine wq_aload_n (pc := 44) dX3_share_44 rfl rfl ?_
      refine tg29 (pc := 45) rfl dX3_share_45 ?_
      refine wq_aload_n (pc := 48) dX3_share_48 rfl rfl ?_
      refine tg15 (pc := 49) rfl dX3_share_49 ?_
      refine wq_bipush (pc := 52) dX3_share_52 cstb49 ?_
      refine tw_iald' (pc := 54) ok mia15 dX3_share_54 V (fun y7 V => ?_)
      refine wq_i2l (pc := 55) dX3_share_55 ?_
      refine wq_lmul (pc := 56) dX3_share_56 ?_
      refine wq_iload_n (pc := 57) dX3_share_57 rfl rfl ?_
      refine tcq2022 (pc := 58) (As := [.long y6, .long (s4.2.2.2 * y7.toInt64), .int x1]) (st := []) rfl dX3_share_58 rfl (Nat.le_of_ble_eq_true rfl) V (tw_ki (fun y9 s8 V => ?_))
      refine wq_iret (pc := 61) dX3_share_61 rfl ⟨_, _, rfl, rfl, V⟩
    · have V := V.2 c
      refine wq_iconst (pc := 24) dX3_share_24 csti1 ?_
      refine wq_iret (pc := 25) dX3_share_25 rfl ⟨_, _, rfl, rfl, V⟩
  · have V := V.2 c
    refine wq_aload_n (pc := 11) dX3_share_11 rfl rfl ?_
    refine wq_iconst (pc := 12) dX3_share_12 csti1 ?_
    refine tcq1843 (pc := 13) (As := [.int (1 : Int32)]) (st := []) rfl dX3_share_13 rfl (Nat.le_of_ble_eq_true rfl) V (tw_ki (fun y11 s10 V => ?_))
    refine wq_iret (pc := 16) dX3_share_16 rfl ⟨_, _, rfl, rfl, V⟩
theorem vX3_isMixed_0 {G : wq_G} {l : Launch} {o : Nat} {ad : Nat → Nat} {h : wq_H} {d : Nat} {K : Int32 → tw_S → Prop} (ok : tw_ok G o ad)   {s : tw_S} (V : tw_ld s 15 (0 : Int32) (fun y1 => (¬ y1 = 0 → tw_cv G l o ad h d mX3_layTab [.ref o] s (fun s2 => tw_cv G l o ad h d mX3_goesUp [.ref o, .int (s2.1 30)] s2 (fun s3 => tw_ci G l o ad h d mX3_cell [.int (s3.1 30), .int ((s3.1 31) - (1 : Int32))] s3 (fun y5 s4 => tw_ldl s4 y5 (fun y6 => tw_ld s4 15 (49 : Int32) (fun y7 => (¬ (lg_cmp y6 (s4.2.2.2 * y7.toInt64)) = 0 → K (0 : Int32) s4) ∧ ((lg_cmp y6 (s4.2.2.2 * y7.toInt64)) = 0 → K (1 : Int32) s4))))))) ∧ (y1 = 0 → K (1 : Int32) s))) : tw_T G l o ad h d mX3_isMixed (tw_qi G o ad h K) 0 [some (.ref o)] [] s := by
  refine wq_aload_n (pc := 0) dX3_isMixed_0 rfl rfl ?_
  refine tg15 (pc := 1) rfl dX3_isMixed_1 ?_
  refine wq_iconst (pc := 4) dX3_isMixed_4 csti0 ?_
  refine tw_iald' (pc := 5) ok mia15 dX3_isMixed_5 V (fun y1 V => ?_)
  refine wq_if_ne (pc := 6) (tgt := 11) dX3_isMixed_6 rfl (fun c => ?_) (fun c => ?_)
  · have V := V.1 c
    refine wq_aload_n (pc := 11) dX3_isMixed_11 rfl rfl ?_
    refine tcq1991 (pc := 12) (As := []) (st := []) rfl dX3_isMixed_12 rfl (Nat.le_of_ble_eq_true rfl) V (tw_kv (fun s2 V => ?_))
    refine wq_aload_n (pc := 15) dX3_isMixed_15 rfl rfl ?_
    refine wq_aload_n (pc := 16) dX3_isMixed_16 rfl rfl ?_
    refine tg30 (pc := 17) rfl dX3_isMixed_17 ?_
    refine tcq2010 (pc := 20) (As := [.int (s2.1 30)]) (st := []) rfl dX3_isMixed_20 rfl (Nat.le_of_ble_eq_true rfl) V (tw_kv (fun s3 V => ?_))
    refine wq_aload_n (pc := 23) dX3_isMixed_23 rfl rfl ?_
    refine tg27 (pc := 24) rfl dX3_isMixed_24 ?_
    refine wq_aload_n (pc := 27) dX3_isMixed_27 rfl rfl ?_
    refine tg30 (pc := 28) rfl dX3_isMixed_28 ?_
    refine wq_aload_n (pc := 31) dX3_isMixed_31 rfl rfl ?_
    refine tg31 (pc := 32) rfl dX3_isMixed_32 ?_
    refine wq_iconst (pc := 35) dX3_isMixed_35 csti1 ?_
    refine wq_isub (pc := 36) dX3_isMixed_36 ?_
    refine tcq2002 (pc := 37) (As := [.int (s3.1 30), .int ((s3.1 31) - (1 : Int32))]) (st := [.ref (ad 27)]) rfl dX3_isMixed_37 rfl (Nat.le_of_ble_eq_true rfl) V (tw_ki (fun y5 s4 V => ?_))
    refine tw_lald' (pc := 40) ok dX3_isMixed_40 V (fun y6 V => ?_)
    refine wq_aload_n (pc := 41) dX3_isMixed_41 rfl rfl ?_
    refine tg29 (pc := 42) rfl dX3_isMixed_42 ?_
    refine wq_aload_n (pc := 45) dX3_isMixed_45 rfl rfl ?_
    refine tg15 (pc := 46) rfl dX3_isMixed_46 ?_
    refine wq_bipush (pc := 49) dX3_isMixed_49 cstb49 ?_
    refine tw_iald' (pc := 51) ok mia15 dX3_isMixed_51 V (fun y7 V => ?_)
    refine wq_i2l (pc := 52) dX3_isMixed_52 ?_
    refine wq_lmul (pc := 53) dX3_isMixed_53 ?_
    refine wq_lcmp (pc := 54) dX3_isMixed_54 ?_
    refine wq_if_ne (pc := 55) (tgt := 62) dX3_isMixed_55 rfl (fun c => ?_) (fun c => ?_)
    · have V := V.1 c
      refine wq_iconst (pc := 62) dX3_isMixed_62 csti0 ?_
      refine wq_zret (pc := 63) dX3_isMixed_63 rfl tw_nb0 ⟨_, _, rfl, rfl, V⟩
    · have V := V.2 c
      refine wq_iconst (pc := 58) dX3_isMixed_58 csti1 ?_
      refine wq_goto (pc := 59) (tgt := 63) dX3_isMixed_59 rfl ?_
      refine wq_zret (pc := 63) dX3_isMixed_63 rfl tw_nb1 ⟨_, _, rfl, rfl, V⟩
  · have V := V.2 c
    refine wq_iconst (pc := 9) dX3_isMixed_9 csti1 ?_
    refine wq_zret (pc := 10) dX3_isMixed_10 rfl tw_nb1 ⟨_, _, rfl, rfl, V⟩
theorem vX3_layTab_0 {G : wq_G} {l : Launch} {o : Nat} {ad : Nat → Nat} {h : wq_H} {d : Nat} {K : tw_S → Prop} (ok : tw_ok G o ad)   {s : tw_S} (V : tw_ci G l o ad h d mX3_hiddenMany [.ref o] s (fun y2 s1 => tw_pt s1 30 (0 : Int32) (fun s3 => tw_T G l o ad h d mX3_layTab (tw_qv G o ad h K) 12 [some (.ref o), some (.int y2), some (.int (0 : Int32)), none, none, none] [] s3))) : tw_T G l o ad h d mX3_layTab (tw_qv G o ad h K) 0 [some (.ref o), none, none, none, none, none] [] s := by
  refine wq_aload_n (pc := 0) dX3_layTab_0 rfl rfl ?_
  refine tcq1995 (pc := 1) (As := []) (st := []) rfl dX3_layTab_1 rfl (Nat.le_of_ble_eq_true rfl) V (tw_ki (fun y2 s1 V => ?_))
  refine wq_istore_n (L' := [some (.ref o), some (.int y2), none, none, none, none]) (pc := 4) dX3_layTab_4 rfl (Nat.le_of_ble_eq_true rfl) rfl ?_
  refine wq_aload_n (pc := 5) dX3_layTab_5 rfl rfl ?_
  refine wq_iconst (pc := 6) dX3_layTab_6 csti0 ?_
  refine tp30 (pc := 7) rfl ok dX3_layTab_7 V (fun s3 V => ?_)
  refine wq_iconst (pc := 10) dX3_layTab_10 csti0 ?_
  refine wq_istore_n (L' := [some (.ref o), some (.int y2), some (.int (0 : Int32)), none, none, none]) (pc := 11) dX3_layTab_11 rfl (Nat.le_of_ble_eq_true rfl) rfl ?_
  exact V
theorem vX3_layTab_12 {G : wq_G} {l : Launch} {o : Nat} {ad : Nat → Nat} {h : wq_H} {d : Nat} {K : tw_S → Prop} (ok : tw_ok G o ad)  {x1 : Int32} {x2 : Int32} {s : tw_S} (V : tw_ld s 15 (0 : Int32) (fun y1 => (y1 ≤ x2 → tw_pt s 31 ((x1 + (s.1 30)) + (1 : Int32)) (fun s2 => tw_T G l o ad h d mX3_layTab (tw_qv G o ad h K) 59 [some (.ref o), some (.int x1), some (.int (0 : Int32)), none, none, none] [] s2)) ∧ (¬ y1 ≤ x2 → tw_ci G l o ad h d mX3_outcomes [.ref (ad 15), .int x2] s (fun y4 s3 => tw_pt s3 30 ((s.1 30) + y4) (fun s5 => tw_T G l o ad h d mX3_layTab (tw_qv G o ad h K) 12 [some (.ref o), some (.int x1), some (.int (x2 + (1 : Int32))), none, none, none] [] s5))))) : tw_T G l o ad h d mX3_layTab (tw_qv G o ad h K) 12 [some (.ref o), some (.int x1), some (.int x2), none, none, none] [] s := by
  refine wq_iload_n (pc := 12) dX3_layTab_12 rfl rfl ?_
  refine wq_aload_n (pc := 13) dX3_layTab_13 rfl rfl ?_
  refine tg15 (pc := 14) rfl dX3_layTab_14 ?_
  refine wq_iconst (pc := 17) dX3_layTab_17 csti0 ?_
  refine tw_iald' (pc := 18) ok mia15 dX3_layTab_18 V (fun y1 V => ?_)
  refine wq_icmp_ge (pc := 19) (tgt := 45) dX3_layTab_19 rfl (fun c => ?_) (fun c => ?_)
  · have V := V.1 c
    refine wq_aload_n (pc := 45) dX3_layTab_45 rfl rfl ?_
    refine wq_iload_n (pc := 46) dX3_layTab_46 rfl rfl ?_
    refine wq_aload_n (pc := 47) dX3_layTab_47 rfl rfl ?_
    refine tg30 (pc := 48) rfl dX3_layTab_48 ?_
    refine wq_iadd (pc := 51) dX3_layTab_51 ?_
    refine wq_iconst (pc := 52) dX3_layTab_52 csti1 ?_
    refine wq_iadd (pc := 53) dX3_layTab_53 ?_
    refine tp31 (pc := 54) rfl ok dX3_layTab_54 V (fun s2 V => ?_)
    refine wq_iconst (pc := 57) dX3_layTab_57 csti0 ?_
    refine wq_istore_n (L' := [some (.ref o), some (.int x1), some (.int (0 : Int32)), none, none, none]) (pc := 58) dX3_layTab_58 rfl (Nat.le_of_ble_eq_true rfl) rfl ?_
    exact V
  · have V := V.2 c
    refine wq_aload_n (pc := 22) dX3_layTab_22 rfl rfl ?_
    refine wq_dup (pc := 23) dX3_layTab_23 rfl ?_
    refine tg30 (pc := 24) rfl dX3_layTab_24 ?_
    refine wq_aload_n (pc := 27) dX3_layTab_27 rfl rfl ?_
    refine tg15 (pc := 28) rfl dX3_layTab_28 ?_
    refine wq_iload_n (pc := 31) dX3_layTab_31 rfl rfl ?_
    refine tcq1999 (pc := 32) (As := [.ref (ad 15), .int x2]) (st := [.int (s.1 30), .ref o]) rfl dX3_layTab_32 rfl (Nat.le_of_ble_eq_true rfl) V (tw_ki (fun y4 s3 V => ?_))
    refine wq_iadd (pc := 35) dX3_layTab_35 ?_
    refine tp30 (pc := 36) rfl ok dX3_layTab_36 V (fun s5 V => ?_)
    refine wq_iinc (L' := [some (.ref o), some (.int x1), some (.int (x2 + (1 : Int32))), none, none, none]) (pc := 39) dX3_layTab_39 rfl (by rw [csti1]) (Nat.le_of_ble_eq_true rfl) rfl ?_
    refine wq_goto (pc := 42) (tgt := 12) dX3_layTab_42 rfl ?_
    exact V
theorem vX3_layTab_59 {G : wq_G} {l : Launch} {o : Nat} {ad : Nat → Nat} {h : wq_H} {d : Nat} {K : tw_S → Prop} (ok : tw_ok G o ad)  {x1 : Int32} {x2 : Int32} {s : tw_S} (V : ((3298 : Int32) ≤ x2 → tw_T G l o ad h d mX3_layTab (tw_qv G o ad h K) 83 [some (.ref o), some (.int x1), some (.int (0 : Int32)), some (.int (0 : Int32)), none, none] [] s) ∧ (¬ (3298 : Int32) ≤ x2 → tw_stl s x2 (0 : Int64) (fun s1 => tw_T G l o ad h d mX3_layTab (tw_qv G o ad h K) 59 [some (.ref o), some (.int x1), some (.int (x2 + (1 : Int32))), none, none, none] [] s1))) : tw_T G l o ad h d mX3_layTab (tw_qv G o ad h K) 59 [some (.ref o), some (.int x1), some (.int x2), none, none, none] [] s := by
  refine wq_iload_n (pc := 59) dX3_layTab_59 rfl rfl ?_
  refine wq_sipush (pc := 60) dX3_layTab_60 csts3298 ?_
  refine wq_icmp_ge (pc := 63) (tgt := 79) dX3_layTab_63 rfl (fun c => ?_) (fun c => ?_)
  · have V := V.1 c
    refine wq_iconst (pc := 79) dX3_layTab_79 csti0 ?_
    refine wq_istore_n (L' := [some (.ref o), some (.int x1), some (.int (0 : Int32)), none, none, none]) (pc := 80) dX3_layTab_80 rfl (Nat.le_of_ble_eq_true rfl) rfl ?_
    refine wq_iconst (pc := 81) dX3_layTab_81 csti0 ?_
    refine wq_istore_n (L' := [some (.ref o), some (.int x1), some (.int (0 : Int32)), some (.int (0 : Int32)), none, none]) (pc := 82) dX3_layTab_82 rfl (Nat.le_of_ble_eq_true rfl) rfl ?_
    exact V
  · have V := V.2 c
    refine wq_aload_n (pc := 66) dX3_layTab_66 rfl rfl ?_
    refine tg27 (pc := 67) rfl dX3_layTab_67 ?_
    refine wq_iload_n (pc := 70) dX3_layTab_70 rfl rfl ?_
    refine wq_lconst (pc := 71) dX3_layTab_71 cstl0 ?_
    refine tw_last' (pc := 72) ok dX3_layTab_72 V (fun s1 V => ?_)
    refine wq_iinc (L' := [some (.ref o), some (.int x1), some (.int (x2 + (1 : Int32))), none, none, none]) (pc := 73) dX3_layTab_73 rfl (by rw [csti1]) (Nat.le_of_ble_eq_true rfl) rfl ?_
    refine wq_goto (pc := 76) (tgt := 59) dX3_layTab_76 rfl ?_
    exact V
theorem vX3_layTab_83 {G : wq_G} {l : Launch} {o : Nat} {ad : Nat → Nat} {h : wq_H} {d : Nat} {K : tw_S → Prop} (ok : tw_ok G o ad)  {x1 : Int32} {x2 : Int32} {x3 : Int32} {s : tw_S} (V : tw_ld s 15 (0 : Int32) (fun y1 => (y1 ≤ x3 → tw_T G l o ad h d mX3_layTab (tw_qv G o ad h K) 221 [some (.ref o), some (.int x1), none, some (.int (0 : Int32)), none, none] [] s) ∧ (¬ y1 ≤ x3 → tw_T G l o ad h d mX3_layTab (tw_qv G o ad h K) 96 [some (.ref o), some (.int x1), some (.int x2), some (.int x3), some (.int (0 : Int32)), none] [] s))) : tw_T G l o ad h d mX3_layTab (tw_qv G o ad h K) 83 [some (.ref o), some (.int x1), some (.int x2), some (.int x3), none, none] [] s := by
  refine wq_iload_n (pc := 83) dX3_layTab_83 rfl rfl ?_
  refine wq_aload_n (pc := 84) dX3_layTab_84 rfl rfl ?_
  refine tg15 (pc := 85) rfl dX3_layTab_85 ?_
  refine wq_iconst (pc := 88) dX3_layTab_88 csti0 ?_
  refine tw_iald' (pc := 89) ok mia15 dX3_layTab_89 V (fun y1 V => ?_)
  refine wq_icmp_ge (pc := 90) (tgt := 219) dX3_layTab_90 rfl (fun c => ?_) (fun c => ?_)
  · have V := V.1 c
    refine wq_iconst (pc := 219) dX3_layTab_219 csti0 ?_
    refine wq_istore_n (L' := [some (.ref o), some (.int x1), some (.int x2), some (.int (0 : Int32)), none, none]) (pc := 220) dX3_layTab_220 rfl (Nat.le_of_ble_eq_true rfl) rfl ?_
    exact wq_T.less V ⟨rfl, ⟨rfl, ⟨rfl, trivial⟩⟩⟩
  · have V := V.2 c
    refine wq_iconst (pc := 93) dX3_layTab_93 csti0 ?_
    refine wq_istore (L' := [some (.ref o), some (.int x1), some (.int x2), some (.int x3), some (.int (0 : Int32)), none]) (pc := 94) dX3_layTab_94 (Nat.le_of_ble_eq_true rfl) rfl ?_
    exact V
theorem vX3_layTab_96 {G : wq_G} {l : Launch} {o : Nat} {ad : Nat → Nat} {h : wq_H} {d : Nat} {K : tw_S → Prop} (ok : tw_ok G o ad)  {x1 : Int32} {x2 : Int32} {x3 : Int32} {x4 : Int32} {s : tw_S} (V : tw_ci G l o ad h d mX3_outcomes [.ref (ad 15), .int x3] s (fun y2 s1 => (y2 ≤ x4 → tw_T G l o ad h d mX3_layTab (tw_qv G o ad h K) 83 [some (.ref o), some (.int x1), some (.int x2), some (.int (x3 + (1 : Int32))), none, none] [] s1) ∧ (¬ y2 ≤ x4 → tw_T G l o ad h d mX3_layTab (tw_qv G o ad h K) 112 [some (.ref o), some (.int x1), some (.int x2), some (.int x3), some (.int x4), some (.int (0 : Int32))] [] s1))) : tw_T G l o ad h d mX3_layTab (tw_qv G o ad h K) 96 [some (.ref o), some (.int x1), some (.int x2), some (.int x3), some (.int x4), none] [] s := by
  refine wq_iload (pc := 96) dX3_layTab_96 rfl ?_
  refine wq_aload_n (pc := 98) dX3_layTab_98 rfl rfl ?_
  refine tg15 (pc := 99) rfl dX3_layTab_99 ?_
  refine wq_iload_n (pc := 102) dX3_layTab_102 rfl rfl ?_
  refine tcq1999 (pc := 103) (As := [.ref (ad 15), .int x3]) (st := [.int x4]) rfl dX3_layTab_103 rfl (Nat.le_of_ble_eq_true rfl) V (tw_ki (fun y2 s1 V => ?_))
  refine wq_icmp_ge (pc := 106) (tgt := 213) dX3_layTab_106 rfl (fun c => ?_) (fun c => ?_)
  · have V := V.1 c
    refine wq_iinc (L' := [some (.ref o), some (.int x1), some (.int x2), some (.int (x3 + (1 : Int32))), some (.int x4), none]) (pc := 213) dX3_layTab_213 rfl (by rw [csti1]) (Nat.le_of_ble_eq_true rfl) rfl ?_
    refine wq_goto (pc := 216) (tgt := 83) dX3_layTab_216 rfl ?_
    exact wq_T.less V ⟨rfl, ⟨rfl, ⟨rfl, ⟨rfl, trivial⟩⟩⟩⟩
  · have V := V.2 c
    refine wq_iconst (pc := 109) dX3_layTab_109 csti0 ?_
    refine wq_istore (L' := [some (.ref o), some (.int x1), some (.int x2), some (.int x3), some (.int x4), some (.int (0 : Int32))]) (pc := 110) dX3_layTab_110 (Nat.le_of_ble_eq_true rfl) rfl ?_
    exact V
theorem vX3_layTab_112 {G : wq_G} {l : Launch} {o : Nat} {ad : Nat → Nat} {h : wq_H} {d : Nat} {K : tw_S → Prop} (ok : tw_ok G o ad)  {x1 : Int32} {x2 : Int32} {x3 : Int32} {x4 : Int32} {x5 : Int32} {s : tw_S} (V : (x1 ≤ x5 → tw_ci G l o ad h d mX3_cell [.int x2, .int (x1 + x2)] s (fun y2 s1 => tw_stl s1 y2 (1 : Int64) (fun s3 => tw_ci G l o ad h d mX3_cell [.int x2, .int ((s3.1 31) - (1 : Int32))] s3 (fun y5 s4 => tw_ld s4 15 (((17 : Int32) + ((4 : Int32) * x3)) + x4) (fun y6 => tw_stl s4 y5 y6.toInt64 (fun s7 => tw_st s7 28 x2 (x1 + x2) (fun s8 => tw_T G l o ad h d mX3_layTab (tw_qv G o ad h K) 96 [some (.ref o), some (.int x1), some (.int (x2 + (1 : Int32))), some (.int x3), some (.int (x4 + (1 : Int32))), none] [] s8))))))) ∧ (¬ x1 ≤ x5 → tw_ci G l o ad h d mX3_cell [.int x2, .int x5] s (fun y10 s9 => tw_ci G l o ad h d mX3_fitted [.ref o, .int x3, .int x5] s9 (fun y12 s11 => (¬ y12 = x4 → tw_stl s11 y10 (0 : Int64) (fun s13 => tw_T G l o ad h d mX3_layTab (tw_qv G o ad h K) 112 [some (.ref o), some (.int x1), some (.int x2), some (.int x3), some (.int x4), some (.int (x5 + (1 : Int32)))] [] s13)) ∧ (y12 = x4 → tw_stl s11 y10 (1 : Int64) (fun s14 => tw_T G l o ad h d mX3_layTab (tw_qv G o ad h K) 112 [some (.ref o), some (.int x1), some (.int x2), some (.int x3), some (.int x4), some (.int (x5 + (1 : Int32)))] [] s14)))))) : tw_T G l o ad h d mX3_layTab (tw_qv G o ad h K) 112 [some (.ref o), some (.int x1), some (.int x2), some (.int x3), some (.int x4), some (.int x5)] [] s := by
  refine wq_iload (pc := 112) dX3_layTab_112 rfl ?_
  refine wq_iload_n (pc := 114) dX3_layTab_114 rfl rfl ?_
  refine wq_icmp_ge (pc := 115) (tgt := 152) dX3_layTab_115 rfl (fun c => ?_) (fun c => ?_)
  · have V := V.1 c
    refine wq_aload_n (pc := 152) dX3_layTab_152 rfl rfl ?_
    refine tg27 (pc := 153) rfl dX3_layTab_153 ?_
    refine wq_iload_n (pc := 156) dX3_layTab_156 rfl rfl ?_
    refine wq_iload_n (pc := 157) dX3_layTab_157 rfl rfl ?_
    refine wq_iload_n (pc := 158) dX3_layTab_158 rfl rfl ?_
    refine wq_iadd (pc := 159) dX3_layTab_159 ?_
    refine tcq2002 (pc := 160) (As := [.int x2, .int (x1 + x2)]) (st := [.ref (ad 27)]) rfl dX3_layTab_160 rfl (Nat.le_of_ble_eq_true rfl) V (tw_ki (fun y2 s1 V => ?_))
    refine wq_lconst (pc := 163) dX3_layTab_163 cstl1 ?_
    refine tw_last' (pc := 164) ok dX3_layTab_164 V (fun s3 V => ?_)
    refine wq_aload_n (pc := 165) dX3_layTab_165 rfl rfl ?_
    refine tg27 (pc := 166) rfl dX3_layTab_166 ?_
    refine wq_iload_n (pc := 169) dX3_layTab_169 rfl rfl ?_
    refine wq_aload_n (pc := 170) dX3_layTab_170 rfl rfl ?_
    refine tg31 (pc := 171) rfl dX3_layTab_171 ?_
    refine wq_iconst (pc := 174) dX3_layTab_174 csti1 ?_
    refine wq_isub (pc := 175) dX3_layTab_175 ?_
    refine tcq2002 (pc := 176) (As := [.int x2, .int ((s3.1 31) - (1 : Int32))]) (st := [.ref (ad 27)]) rfl dX3_layTab_176 rfl (Nat.le_of_ble_eq_true rfl) V (tw_ki (fun y5 s4 V => ?_))
    refine wq_aload_n (pc := 179) dX3_layTab_179 rfl rfl ?_
    refine tg15 (pc := 180) rfl dX3_layTab_180 ?_
    refine wq_bipush (pc := 183) dX3_layTab_183 cstb17 ?_
    refine wq_iconst (pc := 185) dX3_layTab_185 csti4 ?_
    refine wq_iload_n (pc := 186) dX3_layTab_186 rfl rfl ?_
    refine wq_imul (pc := 187) dX3_layTab_187 ?_
    refine wq_iadd (pc := 188) dX3_layTab_188 ?_
    refine wq_iload (pc := 189) dX3_layTab_189 rfl ?_
    refine wq_iadd (pc := 191) dX3_layTab_191 ?_
    refine tw_iald' (pc := 192) ok mia15 dX3_layTab_192 V (fun y6 V => ?_)
    refine wq_i2l (pc := 193) dX3_layTab_193 ?_
    refine tw_last' (pc := 194) ok dX3_layTab_194 V (fun s7 V => ?_)
    refine wq_aload_n (pc := 195) dX3_layTab_195 rfl rfl ?_
    refine tg28 (pc := 196) rfl dX3_layTab_196 ?_
    refine wq_iload_n (pc := 199) dX3_layTab_199 rfl rfl ?_
    refine wq_iload_n (pc := 200) dX3_layTab_200 rfl rfl ?_
    refine wq_iload_n (pc := 201) dX3_layTab_201 rfl rfl ?_
    refine wq_iadd (pc := 202) dX3_layTab_202 ?_
    refine tw_iast' (pc := 203) ok mia28 dX3_layTab_203 V (fun s8 V => ?_)
    refine wq_iinc (L' := [some (.ref o), some (.int x1), some (.int (x2 + (1 : Int32))), some (.int x3), some (.int x4), some (.int x5)]) (pc := 204) dX3_layTab_204 rfl (by rw [csti1]) (Nat.le_of_ble_eq_true rfl) rfl ?_
    refine wq_iinc (L' := [some (.ref o), some (.int x1), some (.int (x2 + (1 : Int32))), some (.int x3), some (.int (x4 + (1 : Int32))), some (.int x5)]) (pc := 207) dX3_layTab_207 rfl (by rw [csti1]) (Nat.le_of_ble_eq_true rfl) rfl ?_
    refine wq_goto (pc := 210) (tgt := 96) dX3_layTab_210 rfl ?_
    exact wq_T.less V ⟨rfl, ⟨rfl, ⟨rfl, ⟨rfl, ⟨rfl, trivial⟩⟩⟩⟩⟩
  · have V := V.2 c
    refine wq_aload_n (pc := 118) dX3_layTab_118 rfl rfl ?_
    refine tg27 (pc := 119) rfl dX3_layTab_119 ?_
    refine wq_iload_n (pc := 122) dX3_layTab_122 rfl rfl ?_
    refine wq_iload (pc := 123) dX3_layTab_123 rfl ?_
    refine tcq2002 (pc := 125) (As := [.int x2, .int x5]) (st := [.ref (ad 27)]) rfl dX3_layTab_125 rfl (Nat.le_of_ble_eq_true rfl) V (tw_ki (fun y10 s9 V => ?_))
    refine wq_aload_n (pc := 128) dX3_layTab_128 rfl rfl ?_
    refine wq_iload_n (pc := 129) dX3_layTab_129 rfl rfl ?_
    refine wq_iload (pc := 130) dX3_layTab_130 rfl ?_
    refine tcq2005 (pc := 132) (As := [.int x3, .int x5]) (st := [.int y10, .ref (ad 27)]) rfl dX3_layTab_132 rfl (Nat.le_of_ble_eq_true rfl) V (tw_ki (fun y12 s11 V => ?_))
    refine wq_iload (pc := 135) dX3_layTab_135 rfl ?_
    refine wq_icmp_ne (pc := 137) (tgt := 144) dX3_layTab_137 rfl (fun c => ?_) (fun c => ?_)
    · have V := V.1 c
      refine wq_lconst (pc := 144) dX3_layTab_144 cstl0 ?_
      refine tw_last' (pc := 145) ok dX3_layTab_145 V (fun s13 V => ?_)
      refine wq_iinc (L' := [some (.ref o), some (.int x1), some (.int x2), some (.int x3), some (.int x4), some (.int (x5 + (1 : Int32)))]) (pc := 146) dX3_layTab_146 rfl (by rw [csti1]) (Nat.le_of_ble_eq_true rfl) rfl ?_
      refine wq_goto (pc := 149) (tgt := 112) dX3_layTab_149 rfl ?_
      exact V
    · have V := V.2 c
      refine wq_lconst (pc := 140) dX3_layTab_140 cstl1 ?_
      refine wq_goto (pc := 141) (tgt := 145) dX3_layTab_141 rfl ?_
      refine tw_last' (pc := 145) ok dX3_layTab_145 V (fun s14 V => ?_)
      refine wq_iinc (L' := [some (.ref o), some (.int x1), some (.int x2), some (.int x3), some (.int x4), some (.int (x5 + (1 : Int32)))]) (pc := 146) dX3_layTab_146 rfl (by rw [csti1]) (Nat.le_of_ble_eq_true rfl) rfl ?_
      refine wq_goto (pc := 149) (tgt := 112) dX3_layTab_149 rfl ?_
      exact V
theorem vX3_layTab_221 {G : wq_G} {l : Launch} {o : Nat} {ad : Nat → Nat} {h : wq_H} {d : Nat} {K : tw_S → Prop} (ok : tw_ok G o ad)  {x1 : Int32} {x3 : Int32} {s : tw_S} (V : (x1 ≤ x3 → tw_ptv s (1 : Int64) (fun s1 => K s1)) ∧ (¬ x1 ≤ x3 → tw_ci G l o ad h d mX3_cell [.int (s.1 30), .int x3] s (fun y3 s2 => tw_stl s2 y3 (-1 : Int64) (fun s4 => tw_T G l o ad h d mX3_layTab (tw_qv G o ad h K) 221 [some (.ref o), some (.int x1), none, some (.int (x3 + (1 : Int32))), none, none] [] s4)))) : tw_T G l o ad h d mX3_layTab (tw_qv G o ad h K) 221 [some (.ref o), some (.int x1), none, some (.int x3), none, none] [] s := by
  refine wq_iload_n (pc := 221) dX3_layTab_221 rfl rfl ?_
  refine wq_iload_n (pc := 222) dX3_layTab_222 rfl rfl ?_
  refine wq_icmp_ge (pc := 223) (tgt := 248) dX3_layTab_223 rfl (fun c => ?_) (fun c => ?_)
  · have V := V.1 c
    refine wq_aload_n (pc := 248) dX3_layTab_248 rfl rfl ?_
    refine wq_lconst (pc := 249) dX3_layTab_249 cstl1 ?_
    refine tp29 (pc := 250) rfl ok dX3_layTab_250 V (fun s1 V => ?_)
    refine wq_vret (pc := 253) dX3_layTab_253 rfl ⟨_, rfl, rfl, V⟩
  · have V := V.2 c
    refine wq_aload_n (pc := 226) dX3_layTab_226 rfl rfl ?_
    refine tg27 (pc := 227) rfl dX3_layTab_227 ?_
    refine wq_aload_n (pc := 230) dX3_layTab_230 rfl rfl ?_
    refine tg30 (pc := 231) rfl dX3_layTab_231 ?_
    refine wq_iload_n (pc := 234) dX3_layTab_234 rfl rfl ?_
    refine tcq2002 (pc := 235) (As := [.int (s.1 30), .int x3]) (st := [.ref (ad 27)]) rfl dX3_layTab_235 rfl (Nat.le_of_ble_eq_true rfl) V (tw_ki (fun y3 s2 V => ?_))
    refine wq_ldc2 (pc := 238) (v := (-1 : Int64)) q2009 dX3_layTab_238 ?_
    refine tw_last' (pc := 241) ok dX3_layTab_241 V (fun s4 V => ?_)
    refine wq_iinc (L' := [some (.ref o), some (.int x1), none, some (.int (x3 + (1 : Int32))), none, none]) (pc := 242) dX3_layTab_242 rfl (by rw [csti1]) (Nat.le_of_ble_eq_true rfl) rfl ?_
    refine wq_goto (pc := 245) (tgt := 221) dX3_layTab_245 rfl ?_
    exact V
theorem vX3_hiddenMany_0 {G : wq_G} {l : Launch} {o : Nat} {ad : Nat → Nat} {h : wq_H} {d : Nat} {K : Int32 → tw_S → Prop} (ok : tw_ok G o ad)   {s : tw_S} (V : tw_ld s 15 (50 : Int32) (fun y1 => K ((1 : Int32) <<< (y1 &&& 31)) s)) : tw_T G l o ad h d mX3_hiddenMany (tw_qi G o ad h K) 0 [some (.ref o)] [] s := by
  refine wq_iconst (pc := 0) dX3_hiddenMany_0 csti1 ?_
  refine wq_aload_n (pc := 1) dX3_hiddenMany_1 rfl rfl ?_
  refine tg15 (pc := 2) rfl dX3_hiddenMany_2 ?_
  refine wq_bipush (pc := 5) dX3_hiddenMany_5 cstb50 ?_
  refine tw_iald' (pc := 7) ok mia15 dX3_hiddenMany_7 V (fun y1 V => ?_)
  refine wq_ishl (pc := 8) dX3_hiddenMany_8 ?_
  refine wq_iret (pc := 9) dX3_hiddenMany_9 rfl ⟨_, _, rfl, rfl, V⟩
theorem vX3_outcomes_0 {G : wq_G} {l : Launch} {o : Nat} {ad : Nat → Nat} {h : wq_H} {d : Nat} {K : Int32 → tw_S → Prop} (ok : tw_ok G o ad) {j0 : Nat} (hj0 : j0 ∈ tw_ia) {x1 : Int32} {s : tw_S} (V : tw_ld s j0 ((9 : Int32) + x1) (fun y1 => (¬ y1 = (-2 : Int32) → K (4 : Int32) s) ∧ (y1 = (-2 : Int32) → K (2 : Int32) s))) : tw_T G l o ad h d mX3_outcomes (tw_qi G o ad h K) 0 [some (.ref (ad j0)), some (.int x1)] [] s := by
  refine wq_aload_n (pc := 0) dX3_outcomes_0 rfl rfl ?_
  refine wq_bipush (pc := 1) dX3_outcomes_1 cstb9 ?_
  refine wq_iload_n (pc := 3) dX3_outcomes_3 rfl rfl ?_
  refine wq_iadd (pc := 4) dX3_outcomes_4 ?_
  refine tw_iald' (pc := 5) ok hj0 dX3_outcomes_5 V (fun y1 V => ?_)
  refine wq_bipush (pc := 6) dX3_outcomes_6 cstbm2 ?_
  refine wq_icmp_ne (pc := 8) (tgt := 15) dX3_outcomes_8 rfl (fun c => ?_) (fun c => ?_)
  · have V := V.1 c
    refine wq_iconst (pc := 15) dX3_outcomes_15 csti4 ?_
    refine wq_iret (pc := 16) dX3_outcomes_16 rfl ⟨_, _, rfl, rfl, V⟩
  · have V := V.2 c
    refine wq_iconst (pc := 11) dX3_outcomes_11 csti2 ?_
    refine wq_goto (pc := 12) (tgt := 16) dX3_outcomes_12 rfl ?_
    refine wq_iret (pc := 16) dX3_outcomes_16 rfl ⟨_, _, rfl, rfl, V⟩
theorem vX3_cell_0 {G : wq_G} {l : Launch} {o : Nat} {ad : Nat → Nat} {h : wq_H} {d : Nat} {K : Int32 → tw_S → Prop} (ok : tw_ok G o ad)  {x0 : Int32} {x1 : Int32} {s : tw_S} (V : K (((97 : Int32) * x0) + x1) s) : tw_T G l o ad h d mX3_cell (tw_qi G o ad h K) 0 [some (.int x0), some (.int x1)] [] s := by
  refine wq_bipush (pc := 0) dX3_cell_0 cstb97 ?_
  refine wq_iload_n (pc := 2) dX3_cell_2 rfl rfl ?_
  refine wq_imul (pc := 3) dX3_cell_3 ?_
  refine wq_iload_n (pc := 4) dX3_cell_4 rfl rfl ?_
  refine wq_iadd (pc := 5) dX3_cell_5 ?_
  refine wq_iret (pc := 6) dX3_cell_6 rfl ⟨_, _, rfl, rfl, V⟩
theorem vX3_fitted_0 {G : wq_G} {l : Launch} {o : Nat} {ad : Nat → Nat} {h : wq_H} {d : Nat} {K : Int32 → tw_S → Prop} (ok : tw_ok G o ad)  {x1 : Int32} {x2 : Int32} {s : tw_S} (V : tw_ld s 15 ((1 : Int32) + x1) (fun y1 => tw_ld s 15 ((9 : Int32) + x1) (fun y2 => (¬ y2 = (-2 : Int32) → tw_ld s 15 ((9 : Int32) + x1) (fun y3 => K (((2 : Int32) * ((x2 >>> (y1 &&& 31)) &&& (1 : Int32))) + ((x2 >>> (y3 &&& 31)) &&& (1 : Int32))) s)) ∧ (y2 = (-2 : Int32) → K ((x2 >>> (y1 &&& 31)) &&& (1 : Int32)) s)))) : tw_T G l o ad h d mX3_fitted (tw_qi G o ad h K) 0 [some (.ref o), some (.int x1), some (.int x2), none] [] s := by
  refine wq_iload_n (pc := 0) dX3_fitted_0 rfl rfl ?_
  refine wq_aload_n (pc := 1) dX3_fitted_1 rfl rfl ?_
  refine tg15 (pc := 2) rfl dX3_fitted_2 ?_
  refine wq_iconst (pc := 5) dX3_fitted_5 csti1 ?_
  refine wq_iload_n (pc := 6) dX3_fitted_6 rfl rfl ?_
  refine wq_iadd (pc := 7) dX3_fitted_7 ?_
  refine tw_iald' (pc := 8) ok mia15 dX3_fitted_8 V (fun y1 V => ?_)
  refine wq_ishr (pc := 9) dX3_fitted_9 ?_
  refine wq_iconst (pc := 10) dX3_fitted_10 csti1 ?_
  refine wq_iand (pc := 11) dX3_fitted_11 ?_
  refine wq_istore_n (L' := [some (.ref o), some (.int x1), some (.int x2), some (.int ((x2 >>> (y1 &&& 31)) &&& (1 : Int32)))]) (pc := 12) dX3_fitted_12 rfl (Nat.le_of_ble_eq_true rfl) rfl ?_
  refine wq_aload_n (pc := 13) dX3_fitted_13 rfl rfl ?_
  refine tg15 (pc := 14) rfl dX3_fitted_14 ?_
  refine wq_bipush (pc := 17) dX3_fitted_17 cstb9 ?_
  refine wq_iload_n (pc := 19) dX3_fitted_19 rfl rfl ?_
  refine wq_iadd (pc := 20) dX3_fitted_20 ?_
  refine tw_iald' (pc := 21) ok mia15 dX3_fitted_21 V (fun y2 V => ?_)
  refine wq_bipush (pc := 22) dX3_fitted_22 cstbm2 ?_
  refine wq_icmp_ne (pc := 24) (tgt := 31) dX3_fitted_24 rfl (fun c => ?_) (fun c => ?_)
  · have V := V.1 c
    refine wq_iconst (pc := 31) dX3_fitted_31 csti2 ?_
    refine wq_iload_n (pc := 32) dX3_fitted_32 rfl rfl ?_
    refine wq_imul (pc := 33) dX3_fitted_33 ?_
    refine wq_iload_n (pc := 34) dX3_fitted_34 rfl rfl ?_
    refine wq_aload_n (pc := 35) dX3_fitted_35 rfl rfl ?_
    refine tg15 (pc := 36) rfl dX3_fitted_36 ?_
    refine wq_bipush (pc := 39) dX3_fitted_39 cstb9 ?_
    refine wq_iload_n (pc := 41) dX3_fitted_41 rfl rfl ?_
    refine wq_iadd (pc := 42) dX3_fitted_42 ?_
    refine tw_iald' (pc := 43) ok mia15 dX3_fitted_43 V (fun y3 V => ?_)
    refine wq_ishr (pc := 44) dX3_fitted_44 ?_
    refine wq_iconst (pc := 45) dX3_fitted_45 csti1 ?_
    refine wq_iand (pc := 46) dX3_fitted_46 ?_
    refine wq_iadd (pc := 47) dX3_fitted_47 ?_
    refine wq_iret (pc := 48) dX3_fitted_48 rfl ⟨_, _, rfl, rfl, V⟩
  · have V := V.2 c
    refine wq_iload_n (pc := 27) dX3_fitted_27 rfl rfl ?_
    refine wq_goto (pc := 28) (tgt := 48) dX3_fitted_28 rfl ?_
    refine wq_iret (pc := 48) dX3_fitted_48 rfl ⟨_, _, rfl, rfl, V⟩
theorem vX3_goesUp_0 {G : wq_G} {l : Launch} {o : Nat} {ad : Nat → Nat} {h : wq_H} {d : Nat} {K : tw_S → Prop} (ok : tw_ok G o ad)  {x1 : Int32} {s : tw_S} (V : tw_T G l o ad h d mX3_goesUp (tw_qv G o ad h K) 2 [some (.ref o), some (.int x1), some (.int (1 : Int32)), none, none] [] s) : tw_T G l o ad h d mX3_goesUp (tw_qv G o ad h K) 0 [some (.ref o), some (.int x1), none, none, none] [] s := by
  refine wq_iconst (pc := 0) dX3_goesUp_0 csti1 ?_
  refine wq_istore_n (L' := [some (.ref o), some (.int x1), some (.int (1 : Int32)), none, none]) (pc := 1) dX3_goesUp_1 rfl (Nat.le_of_ble_eq_true rfl) rfl ?_
  exact V
theorem vX3_goesUp_2 {G : wq_G} {l : Launch} {o : Nat} {ad : Nat → Nat} {h : wq_H} {d : Nat} {K : tw_S → Prop} (ok : tw_ok G o ad)  {x1 : Int32} {x2 : Int32} {s : tw_S} (V : (x2 = 0 → K s) ∧ (¬ x2 = 0 → tw_T G l o ad h d mX3_goesUp (tw_qv G o ad h K) 11 [some (.ref o), some (.int x1), none, some (.int (-1 : Int32)), some (.int (0 : Int32))] [] s)) : tw_T G l o ad h d mX3_goesUp (tw_qv G o ad h K) 2 [some (.ref o), some (.int x1), some (.int x2), none, none] [] s := by
  refine wq_iload_n (pc := 2) dX3_goesUp_2 rfl rfl ?_
  refine wq_if_eq (pc := 3) (tgt := 118) dX3_goesUp_3 rfl (fun c => ?_) (fun c => ?_)
  · have V := V.1 c
    refine wq_vret (pc := 118) dX3_goesUp_118 rfl ⟨_, rfl, rfl, V⟩
  · have V := V.2 c
    refine wq_iconst (pc := 6) dX3_goesUp_6 cstim1 ?_
    refine wq_istore_n (L' := [some (.ref o), some (.int x1), some (.int x2), some (.int (-1 : Int32)), none]) (pc := 7) dX3_goesUp_7 rfl (Nat.le_of_ble_eq_true rfl) rfl ?_
    refine wq_iconst (pc := 8) dX3_goesUp_8 csti0 ?_
    refine wq_istore (L' := [some (.ref o), some (.int x1), some (.int x2), some (.int (-1 : Int32)), some (.int (0 : Int32))]) (pc := 9) dX3_goesUp_9 (Nat.le_of_ble_eq_true rfl) rfl ?_
    exact wq_T.less V ⟨rfl, ⟨rfl, ⟨rfl, ⟨rfl, trivial⟩⟩⟩⟩
theorem vX3_goesUp_11 {G : wq_G} {l : Launch} {o : Nat} {ad : Nat → Nat} {h : wq_H} {d : Nat} {K : tw_S → Prop} (ok : tw_ok G o ad)  {x1 : Int32} {x3 : Int32} {x4 : Int32} {s : tw_S} (V : (((s.1 31) - (1 : Int32)) ≤ x4 → (0 ≤ x3 → tw_ci G l o ad h d mX3_bounding [.ref o, .int x3] s (fun y2 s1 => tw_T G l o ad h d mX3_goesUp (tw_qv G o ad h K) 91 [some (.ref o), some (.int x1), none, some (.int x3), none] [.int y2] s1)) ∧ (¬ 0 ≤ x3 → tw_T G l o ad h d mX3_goesUp (tw_qv G o ad h K) 91 [some (.ref o), some (.int x1), none, some (.int x3), none] [.int (-1 : Int32)] s)) ∧ (¬ ((s.1 31) - (1 : Int32)) ≤ x4 → (0 ≤ x3 → (0 ≤ x3 → tw_ci G l o ad h d mX3_bounding [.ref o, .int x3] s (fun y4 s3 => tw_T G l o ad h d mX3_goesUp (tw_qv G o ad h K) 91 [some (.ref o), some (.int x1), none, some (.int x3), none] [.int y4] s3)) ∧ (¬ 0 ≤ x3 → tw_T G l o ad h d mX3_goesUp (tw_qv G o ad h K) 91 [some (.ref o), some (.int x1), none, some (.int x3), none] [.int (-1 : Int32)] s)) ∧ (¬ 0 ≤ x3 → tw_ci G l o ad h d mX3_cell [.int x1, .int x4] s (fun y6 s5 => tw_ldl s5 y6 (fun y7 => (0 ≤ (lg_cmp y7 (0 : Int64)) → tw_T G l o ad h d mX3_goesUp (tw_qv G o ad h K) 11 [some (.ref o), some (.int x1), none, some (.int x3), some (.int (x4 + (1 : Int32)))] [] s5) ∧ (¬ 0 ≤ (lg_cmp y7 (0 : Int64)) → (x1 = (s5.1 30) → tw_T G l o ad h d mX3_goesUp (tw_qv G o ad h K) 11 [some (.ref o), some (.int x1), none, some (.int x4), some (.int (x4 + (1 : Int32)))] [] s5) ∧ (¬ x1 = (s5.1 30) → tw_ci G l o ad h d mX3_cell [.int (s5.1 30), .int x4] s5 (fun y9 s8 => tw_ldl s8 y9 (fun y10 => (¬ (lg_cmp y10 (0 : Int64)) = 0 → tw_T G l o ad h d mX3_goesUp (tw_qv G o ad h K) 11 [some (.ref o), some (.int x1), none, some (.int x3), some (.int (x4 + (1 : Int32)))] [] s8) ∧ ((lg_cmp y10 (0 : Int64)) = 0 → tw_T G l o ad h d mX3_goesUp (tw_qv G o ad h K) 11 [some (.ref o), some (.int x1), none, some (.int x4), some (.int (x4 + (1 : Int32)))] [] s8)))))))))) : tw_T G l o ad h d mX3_goesUp (tw_qv G o ad h K) 11 [some (.ref o), some (.int x1), none, some (.int x3), some (.int x4)] [] s := by
  refine wq_iload (pc := 11) dX3_goesUp_11 rfl ?_
  refine wq_aload_n (pc := 13) dX3_goesUp_13 rfl rfl ?_
  refine tg31 (pc := 14) rfl dX3_goesUp_14 ?_
  refine wq_iconst (pc := 17) dX3_goesUp_17 csti1 ?_
  refine wq_isub (pc := 18) dX3_goesUp_18 ?_
  refine wq_icmp_ge (pc := 19) (tgt := 78) dX3_goesUp_19 rfl (fun c => ?_) (fun c => ?_)
  · have V := V.1 c
    refine wq_iload_n (pc := 78) dX3_goesUp_78 rfl rfl ?_
    refine wq_if_ge (pc := 79) (tgt := 86) dX3_goesUp_79 rfl (fun c => ?_) (fun c => ?_)
    · have V := V.1 c
      refine wq_aload_n (pc := 86) dX3_goesUp_86 rfl rfl ?_
      refine wq_iload_n (pc := 87) dX3_goesUp_87 rfl rfl ?_
      refine tcq2014 (pc := 88) (As := [.int x3]) (st := []) rfl dX3_goesUp_88 rfl (Nat.le_of_ble_eq_true rfl) V (tw_ki (fun y2 s1 V => ?_))
      exact wq_T.less V ⟨rfl, ⟨rfl, ⟨rfl, trivial⟩⟩⟩
    · have V := V.2 c
      refine wq_iconst (pc := 82) dX3_goesUp_82 cstim1 ?_
      refine wq_goto (pc := 83) (tgt := 91) dX3_goesUp_83 rfl ?_
      exact wq_T.less V ⟨rfl, ⟨rfl, ⟨rfl, trivial⟩⟩⟩
  · have V := V.2 c
    refine wq_iload_n (pc := 22) dX3_goesUp_22 rfl rfl ?_
    refine wq_if_ge (pc := 23) (tgt := 78) dX3_goesUp_23 rfl (fun c => ?_) (fun c => ?_)
    · have V := V.1 c
      refine wq_iload_n (pc := 78) dX3_goesUp_78 rfl rfl ?_
      refine wq_if_ge (pc := 79) (tgt := 86) dX3_goesUp_79 rfl (fun c => ?_) (fun c => ?_)
      · have V := V.1 c
        refine wq_aload_n (pc := 86) dX3_goesUp_86 rfl rfl ?_
        refine wq_iload_n (pc := 87) dX3_goesUp_87 rfl rfl ?_
        refine tcq2014 (pc := 88) (As := [.int x3]) (st := []) rfl dX3_goesUp_88 rfl (Nat.le_of_ble_eq_true rfl) V (tw_ki (fun y4 s3 V => ?_))
        exact wq_T.less V ⟨rfl, ⟨rfl, ⟨rfl, trivial⟩⟩⟩
      · have V := V.2 c
        refine wq_iconst (pc := 82) dX3_goesUp_82 cstim1 ?_
        refine wq_goto (pc := 83) (tgt := 91) dX3_goesUp_83 rfl ?_
        exact wq_T.less V ⟨rfl, ⟨rfl, ⟨rfl, trivial⟩⟩⟩
    · have V := V.2 c
      refine wq_aload_n (pc := 26) dX3_goesUp_26 rfl rfl ?_
      refine tg27 (pc := 27) rfl dX3_goesUp_27 ?_
      refine wq_iload_n (pc := 30) dX3_goesUp_30 rfl rfl ?_
      refine wq_iload (pc := 31) dX3_goesUp_31 rfl ?_
      refine tcq2002 (pc := 33) (As := [.int x1, .int x4]) (st := [.ref (ad 27)]) rfl dX3_goesUp_33 rfl (Nat.le_of_ble_eq_true rfl) V (tw_ki (fun y6 s5 V => ?_))
      refine tw_lald' (pc := 36) ok dX3_goesUp_36 V (fun y7 V => ?_)
      refine wq_lconst (pc := 37) dX3_goesUp_37 cstl0 ?_
      refine wq_lcmp (pc := 38) dX3_goesUp_38 ?_
      refine wq_if_ge (pc := 39) (tgt := 72) dX3_goesUp_39 rfl (fun c => ?_) (fun c => ?_)
      · have V := V.1 c
        refine wq_iinc (L' := [some (.ref o), some (.int x1), none, some (.int x3), some (.int (x4 + (1 : Int32)))]) (pc := 72) dX3_goesUp_72 rfl (by rw [csti1]) (Nat.le_of_ble_eq_true rfl) rfl ?_
        refine wq_goto (pc := 75) (tgt := 11) dX3_goesUp_75 rfl ?_
        exact V
      · have V := V.2 c
        refine wq_iload_n (pc := 42) dX3_goesUp_42 rfl rfl ?_
        refine wq_aload_n (pc := 43) dX3_goesUp_43 rfl rfl ?_
        refine tg30 (pc := 44) rfl dX3_goesUp_44 ?_
        refine wq_icmp_eq (pc := 47) (tgt := 69) dX3_goesUp_47 rfl (fun c => ?_) (fun c => ?_)
        · have V := V.1 c
          refine wq_iload (pc := 69) dX3_goesUp_69 rfl ?_
          refine wq_istore_n (L' := [some (.ref o), some (.int x1), none, some (.int x4), some (.int x4)]) (pc := 71) dX3_goesUp_71 rfl (Nat.le_of_ble_eq_true rfl) rfl ?_
          refine wq_iinc (L' := [some (.ref o), some (.int x1), none, some (.int x4), some (.int (x4 + (1 : Int32)))]) (pc := 72) dX3_goesUp_72 rfl (by rw [csti1]) (Nat.le_of_ble_eq_true rfl) rfl ?_
          refine wq_goto (pc := 75) (tgt := 11) dX3_goesUp_75 rfl ?_
          exact V
        · have V := V.2 c
          refine wq_aload_n (pc := 50) dX3_goesUp_50 rfl rfl ?_
          refine tg27 (pc := 51) rfl dX3_goesUp_51 ?_
          refine wq_aload_n (pc := 54) dX3_goesUp_54 rfl rfl ?_
          refine tg30 (pc := 55) rfl dX3_goesUp_55 ?_
          refine wq_iload (pc := 58) dX3_goesUp_58 rfl ?_
          refine tcq2002 (pc := 60) (As := [.int (s5.1 30), .int x4]) (st := [.ref (ad 27)]) rfl dX3_goesUp_60 rfl (Nat.le_of_ble_eq_true rfl) V (tw_ki (fun y9 s8 V => ?_))
          refine tw_lald' (pc := 63) ok dX3_goesUp_63 V (fun y10 V => ?_)
          refine wq_lconst (pc := 64) dX3_goesUp_64 cstl0 ?_
          refine wq_lcmp (pc := 65) dX3_goesUp_65 ?_
          refine wq_if_ne (pc := 66) (tgt := 72) dX3_goesUp_66 rfl (fun c => ?_) (fun c => ?_)
          · have V := V.1 c
            refine wq_iinc (L' := [some (.ref o), some (.int x1), none, some (.int x3), some (.int (x4 + (1 : Int32)))]) (pc := 72) dX3_goesUp_72 rfl (by rw [csti1]) (Nat.le_of_ble_eq_true rfl) rfl ?_
            refine wq_goto (pc := 75) (tgt := 11) dX3_goesUp_75 rfl ?_
            exact V
          · have V := V.2 c
            refine wq_iload (pc := 69) dX3_goesUp_69 rfl ?_
            refine wq_istore_n (L' := [some (.ref o), some (.int x1), none, some (.int x4), some (.int x4)]) (pc := 71) dX3_goesUp_71 rfl (Nat.le_of_ble_eq_true rfl) rfl ?_
            refine wq_iinc (L' := [some (.ref o), some (.int x1), none, some (.int x4), some (.int (x4 + (1 : Int32)))]) (pc := 72) dX3_goesUp_72 rfl (by rw [csti1]) (Nat.le_of_ble_eq_true rfl) rfl ?_
            refine wq_goto (pc := 75) (tgt := 11) dX3_goesUp_75 rfl ?_
            exact V
theorem vX3_goesUp_91 {G : wq_G} {l : Launch} {o : Nat} {ad : Nat → Nat} {h : wq_H} {d : Nat} {K : tw_S → Prop} (ok : tw_ok G o ad)  {x1 : Int32} {x3 : Int32} {z0 : Int32} {s : tw_S} (V : (z0 < 0 → ((0 : Int32) = 0 → tw_T G l o ad h d mX3_goesUp (tw_qv G o ad h K) 2 [some (.ref o), some (.int x1), some (.int (0 : Int32)), none, none] [] s) ∧ (¬ (0 : Int32) = 0 → tw_cv G l o ad h d mX3_turnOver [.ref o, .int z0, .int x3] s (fun s1 => tw_T G l o ad h d mX3_goesUp (tw_qv G o ad h K) 2 [some (.ref o), some (.int x1), some (.int (0 : Int32)), none, none] [] s1))) ∧ (¬ z0 < 0 → ((1 : Int32) = 0 → tw_T G l o ad h d mX3_goesUp (tw_qv G o ad h K) 2 [some (.ref o), some (.int x1), some (.int (1 : Int32)), none, none] [] s) ∧ (¬ (1 : Int32) = 0 → tw_cv G l o ad h d mX3_turnOver [.ref o, .int z0, .int x3] s (fun s2 => tw_T G l o ad h d mX3_goesUp (tw_qv G o ad h K) 2 [some (.ref o), some (.int x1), some (.int (1 : Int32)), none, none] [] s2)))) : tw_T G l o ad h d mX3_goesUp (tw_qv G o ad h K) 91 [some (.ref o), some (.int x1), none, some (.int x3), none] [.int z0] s := by
  refine wq_istore (L' := [some (.ref o), some (.int x1), none, some (.int x3), some (.int z0)]) (pc := 91) dX3_goesUp_91 (Nat.le_of_ble_eq_true rfl) rfl ?_
  refine wq_iload (pc := 93) dX3_goesUp_93 rfl ?_
  refine wq_if_lt (pc := 95) (tgt := 102) dX3_goesUp_95 rfl (fun c => ?_) (fun c => ?_)
  · have V := V.1 c
    refine wq_iconst (pc := 102) dX3_goesUp_102 csti0 ?_
    refine wq_istore_n (L' := [some (.ref o), some (.int x1), some (.int (0 : Int32)), some (.int x3), some (.int z0)]) (pc := 103) dX3_goesUp_103 rfl (Nat.le_of_ble_eq_true rfl) rfl ?_
    refine wq_iload_n (pc := 104) dX3_goesUp_104 rfl rfl ?_
    refine wq_if_eq (pc := 105) (tgt := 115) dX3_goesUp_105 rfl (fun c => ?_) (fun c => ?_)
    · have V := V.1 c
      refine wq_goto (pc := 115) (tgt := 2) dX3_goesUp_115 rfl ?_
      exact wq_T.less V ⟨rfl, ⟨rfl, ⟨rfl, trivial⟩⟩⟩
    · have V := V.2 c
      refine wq_aload_n (pc := 108) dX3_goesUp_108 rfl rfl ?_
      refine wq_iload (pc := 109) dX3_goesUp_109 rfl ?_
      refine wq_iload_n (pc := 111) dX3_goesUp_111 rfl rfl ?_
      refine tcq2018 (pc := 112) (As := [.int z0, .int x3]) (st := []) rfl dX3_goesUp_112 rfl (Nat.le_of_ble_eq_true rfl) V (tw_kv (fun s1 V => ?_))
      refine wq_goto (pc := 115) (tgt := 2) dX3_goesUp_115 rfl ?_
      exact wq_T.less V ⟨rfl, ⟨rfl, ⟨rfl, trivial⟩⟩⟩
  · have V := V.2 c
    refine wq_iconst (pc := 98) dX3_goesUp_98 csti1 ?_
    refine wq_goto (pc := 99) (tgt := 103) dX3_goesUp_99 rfl ?_
    refine wq_istore_n (L' := [some (.ref o), some (.int x1), some (.int (1 : Int32)), some (.int x3), some (.int z0)]) (pc := 103) dX3_goesUp_103 rfl (Nat.le_of_ble_eq_true rfl) rfl ?_
    refine wq_iload_n (pc := 104) dX3_goesUp_104 rfl rfl ?_
    refine wq_if_eq (pc := 105) (tgt := 115) dX3_goesUp_105 rfl (fun c => ?_) (fun c => ?_)
    · have V := V.1 c
      refine wq_goto (pc := 115) (tgt := 2) dX3_goesUp_115 rfl ?_
      exact wq_T.less V ⟨rfl, ⟨rfl, ⟨rfl, trivial⟩⟩⟩
    · have V := V.2 c
      refine wq_aload_n (pc := 108) dX3_goesUp_108 rfl rfl ?_
      refine wq_iload (pc := 109) dX3_goesUp_109 rfl ?_
      refine wq_iload_n (pc := 111) dX3_goesUp_111 rfl rfl ?_
      refine tcq2018 (pc := 112) (As := [.int z0, .int x3]) (st := []) rfl dX3_goesUp_112 rfl (Nat.le_of_ble_eq_true rfl) V (tw_kv (fun s2 V => ?_))
      refine wq_goto (pc := 115) (tgt := 2) dX3_goesUp_115 rfl ?_
      exact wq_T.less V ⟨rfl, ⟨rfl, ⟨rfl, trivial⟩⟩⟩
theorem vX3_bounding_0 {G : wq_G} {l : Launch} {o : Nat} {ad : Nat → Nat} {h : wq_H} {d : Nat} {K : Int32 → tw_S → Prop} (ok : tw_ok G o ad)  {x1 : Int32} {s : tw_S} (V : tw_T G l o ad h d mX3_bounding (tw_qi G o ad h K) 4 [some (.ref o), some (.int x1), some (.int (-1 : Int32)), some (.int (0 : Int32)), none, none, none, none, none, none, none, none] [] s) : tw_T G l o ad h d mX3_bounding (tw_qi G o ad h K) 0 [some (.ref o), some (.int x1), none, none, none, none, none, none, none, none, none, none] [] s := by
  refine wq_iconst (pc := 0) dX3_bounding_0 cstim1 ?_
  refine wq_istore_n (L' := [some (.ref o), some (.int x1), some (.int (-1 : Int32)), none, none, none, none, none, none, none, none, none]) (pc := 1) dX3_bounding_1 rfl (Nat.le_of_ble_eq_true rfl) rfl ?_
  refine wq_iconst (pc := 2) dX3_bounding_2 csti0 ?_
  refine wq_istore_n (L' := [some (.ref o), some (.int x1), some (.int (-1 : Int32)), some (.int (0 : Int32)), none, none, none, none, none, none, none, none]) (pc := 3) dX3_bounding_3 rfl (Nat.le_of_ble_eq_true rfl) rfl ?_
  exact V
theorem vX3_bounding_4 {G : wq_G} {l : Launch} {o : Nat} {ad : Nat → Nat} {h : wq_H} {d : Nat} {K : Int32 → tw_S → Prop} (ok : tw_ok G o ad)  {x1 : Int32} {x2 : Int32} {x3 : Int32} {s : tw_S} (V : ((s.1 30) ≤ x3 → K x2 s) ∧ (¬ (s.1 30) ≤ x3 → tw_ci G l o ad h d mX3_cell [.int x3, .int x1] s (fun y2 s1 => tw_ldl s1 y2 (fun y3 => (0 < (lg_cmp y3 (0 : Int64)) → (0 ≤ x2 → tw_ci G l o ad h d mX3_cell [.int x2, .int x1] s1 (fun y5 s4 => tw_ldl s4 y5 (fun y6 => tw_ci G l o ad h d mX3_cell [.int x3, .int ((s4.1 31) - (1 : Int32))] s4 (fun y8 s7 => tw_ldl s7 y8 (fun y9 => tw_ci G l o ad h d mX3_cell [.int x2, .int ((s7.1 31) - (1 : Int32))] s7 (fun y11 s10 => tw_ldl s10 y11 (fun y12 => ((lg_cmp (y9 * y6) (y12 * y3)) < 0 → tw_T G l o ad h d mX3_bounding (tw_qi G o ad h K) 4 [some (.ref o), some (.int x1), some (.int x3), some (.int (x3 + (1 : Int32))), none, none, none, none, none, none, none, none] [] s10) ∧ (¬ (lg_cmp (y9 * y6) (y12 * y3)) < 0 → (¬ (lg_cmp (y9 * y6) (y12 * y3)) = 0 → tw_T G l o ad h d mX3_bounding (tw_qi G o ad h K) 4 [some (.ref o), some (.int x1), some (.int x2), some (.int (x3 + (1 : Int32))), none, none, none, none, none, none, none, none] [] s10) ∧ ((lg_cmp (y9 * y6) (y12 * y3)) = 0 → tw_ld s10 28 x3 (fun y13 => tw_ld s10 28 x2 (fun y14 => (y14 ≤ y13 → tw_T G l o ad h d mX3_bounding (tw_qi G o ad h K) 4 [some (.ref o), some (.int x1), some (.int x2), some (.int (x3 + (1 : Int32))), none, none, none, none, none, none, none, none] [] s10) ∧ (¬ y14 ≤ y13 → tw_T G l o ad h d mX3_bounding (tw_qi G o ad h K) 4 [some (.ref o), some (.int x1), some (.int x3), some (.int (x3 + (1 : Int32))), none, none, none, none, none, none, none, none] [] s10)))))))))))) ∧ (¬ 0 ≤ x2 → tw_T G l o ad h d mX3_bounding (tw_qi G o ad h K) 4 [some (.ref o), some (.int x1), some (.int x3), some (.int (x3 + (1 : Int32))), none, none, none, none, none, none, none, none] [] s1)) ∧ (¬ 0 < (lg_cmp y3 (0 : Int64)) → tw_T G l o ad h d mX3_bounding (tw_qi G o ad h K) 4 [some (.ref o), some (.int x1), some (.int x2), some (.int (x3 + (1 : Int32))), none, none, none, none, none, none, none, none] [] s1))))) : tw_T G l o ad h d mX3_bounding (tw_qi G o ad h K) 4 [some (.ref o), some (.int x1), some (.int x2), some (.int x3), none, none, none, none, none, none, none, none] [] s := by
  refine wq_iload_n (pc := 4) dX3_bounding_4 rfl rfl ?_
  refine wq_aload_n (pc := 5) dX3_bounding_5 rfl rfl ?_
  refine tg30 (pc := 6) rfl dX3_bounding_6 ?_
  refine wq_icmp_ge (pc := 9) (tgt := 134) dX3_bounding_9 rfl (fun c => ?_) (fun c => ?_)
  · have V := V.1 c
    refine wq_iload_n (pc := 134) dX3_bounding_134 rfl rfl ?_
    refine wq_iret (pc := 135) dX3_bounding_135 rfl ⟨_, _, rfl, rfl, V⟩
  · have V := V.2 c
    refine wq_aload_n (pc := 12) dX3_bounding_12 rfl rfl ?_
    refine tg27 (pc := 13) rfl dX3_bounding_13 ?_
    refine wq_iload_n (pc := 16) dX3_bounding_16 rfl rfl ?_
    refine wq_iload_n (pc := 17) dX3_bounding_17 rfl rfl ?_
    refine tcq2002 (pc := 18) (As := [.int x3, .int x1]) (st := [.ref (ad 27)]) rfl dX3_bounding_18 rfl (Nat.le_of_ble_eq_true rfl) V (tw_ki (fun y2 s1 V => ?_))
    refine tw_lald' (pc := 21) ok dX3_bounding_21 V (fun y3 V => ?_)
    refine wq_lstore (L' := [some (.ref o), some (.int x1), some (.int x2), some (.int x3), some (.long y3), none, none, none, none, none, none, none]) (pc := 22) dX3_bounding_22 (Nat.le_of_ble_eq_true rfl) rfl ?_
    refine wq_lload (pc := 24) dX3_bounding_24 rfl ?_
    refine wq_lconst (pc := 26) dX3_bounding_26 cstl0 ?_
    refine wq_lcmp (pc := 27) dX3_bounding_27 ?_
    refine wq_if_gt (pc := 28) (tgt := 34) dX3_bounding_28 rfl (fun c => ?_) (fun c => ?_)
    · have V := V.1 c
      refine wq_iload_n (pc := 34) dX3_bounding_34 rfl rfl ?_
      refine wq_if_ge (pc := 35) (tgt := 43) dX3_bounding_35 rfl (fun c => ?_) (fun c => ?_)
      · have V := V.1 c
        refine wq_aload_n (pc := 43) dX3_bounding_43 rfl rfl ?_
        refine tg27 (pc := 44) rfl dX3_bounding_44 ?_
        refine wq_iload_n (pc := 47) dX3_bounding_47 rfl rfl ?_
        refine wq_iload_n (pc := 48) dX3_bounding_48 rfl rfl ?_
        refine tcq2002 (pc := 49) (As := [.int x2, .int x1]) (st := [.ref (ad 27)]) rfl dX3_bounding_49 rfl (Nat.le_of_ble_eq_true rfl) V (tw_ki (fun y5 s4 V => ?_))
        refine tw_lald' (pc := 52) ok dX3_bounding_52 V (fun y6 V => ?_)
        refine wq_lstore (L' := [some (.ref o), some (.int x1), some (.int x2), some (.int x3), some (.long y3), none, some (.long y6), none, none, none, none, none]) (pc := 53) dX3_bounding_53 (Nat.le_of_ble_eq_true rfl) rfl ?_
        refine wq_aload_n (pc := 55) dX3_bounding_55 rfl rfl ?_
        refine tg27 (pc := 56) rfl dX3_bounding_56 ?_
        refine wq_iload_n (pc := 59) dX3_bounding_59 rfl rfl ?_
        refine wq_aload_n (pc := 60) dX3_bounding_60 rfl rfl ?_
        refine tg31 (pc := 61) rfl dX3_bounding_61 ?_
        refine wq_iconst (pc := 64) dX3_bounding_64 csti1 ?_
        refine wq_isub (pc := 65) dX3_bounding_65 ?_
        refine tcq2002 (pc := 66) (As := [.int x3, .int ((s4.1 31) - (1 : Int32))]) (st := [.ref (ad 27)]) rfl dX3_bounding_66 rfl (Nat.le_of_ble_eq_true rfl) V (tw_ki (fun y8 s7 V => ?_))
        refine tw_lald' (pc := 69) ok dX3_bounding_69 V (fun y9 V => ?_)
        refine wq_lload (pc := 70) dX3_bounding_70 rfl ?_
        refine wq_lmul (pc := 72) dX3_bounding_72 ?_
        refine wq_lstore (L' := [some (.ref o), some (.int x1), some (.int x2), some (.int x3), some (.long y3), none, some (.long y6), none, some (.long (y9 * y6)), none, none, none]) (pc := 73) dX3_bounding_73 (Nat.le_of_ble_eq_true rfl) rfl ?_
        refine wq_aload_n (pc := 75) dX3_bounding_75 rfl rfl ?_
        refine tg27 (pc := 76) rfl dX3_bounding_76 ?_
        refine wq_iload_n (pc := 79) dX3_bounding_79 rfl rfl ?_
        refine wq_aload_n (pc := 80) dX3_bounding_80 rfl rfl ?_
        refine tg31 (pc := 81) rfl dX3_bounding_81 ?_
        refine wq_iconst (pc := 84) dX3_bounding_84 csti1 ?_
        refine wq_isub (pc := 85) dX3_bounding_85 ?_
        refine tcq2002 (pc := 86) (As := [.int x2, .int ((s7.1 31) - (1 : Int32))]) (st := [.ref (ad 27)]) rfl dX3_bounding_86 rfl (Nat.le_of_ble_eq_true rfl) V (tw_ki (fun y11 s10 V => ?_))
        refine tw_lald' (pc := 89) ok dX3_bounding_89 V (fun y12 V => ?_)
        refine wq_lload (pc := 90) dX3_bounding_90 rfl ?_
        refine wq_lmul (pc := 92) dX3_bounding_92 ?_
        refine wq_lstore (L' := [some (.ref o), some (.int x1), some (.int x2), some (.int x3), some (.long y3), none, some (.long y6), none, some (.long (y9 * y6)), none, some (.long (y12 * y3)), none]) (pc := 93) dX3_bounding_93 (Nat.le_of_ble_eq_true rfl) rfl ?_
        refine wq_lload (pc := 95) dX3_bounding_95 rfl ?_
        refine wq_lload (pc := 97) dX3_bounding_97 rfl ?_
        refine wq_lcmp (pc := 99) dX3_bounding_99 ?_
        refine wq_if_lt (pc := 100) (tgt := 126) dX3_bounding_100 rfl (fun c => ?_) (fun c => ?_)
        · have V := V.1 c
          refine wq_iload_n (pc := 126) dX3_bounding_126 rfl rfl ?_
          refine wq_istore_n (L' := [some (.ref o), some (.int x1), some (.int x3), some (.int x3), some (.long y3), none, some (.long y6), none, some (.long (y9 * y6)), none, some (.long (y12 * y3)), none]) (pc := 127) dX3_bounding_127 rfl (Nat.le_of_ble_eq_true rfl) rfl ?_
          refine wq_iinc (L' := [some (.ref o), some (.int x1), some (.int x3), some (.int (x3 + (1 : Int32))), some (.long y3), none, some (.long y6), none, some (.long (y9 * y6)), none, some (.long (y12 * y3)), none]) (pc := 128) dX3_bounding_128 rfl (by rw [csti1]) (Nat.le_of_ble_eq_true rfl) rfl ?_
          refine wq_goto (pc := 131) (tgt := 4) dX3_bounding_131 rfl ?_
          exact wq_T.less V ⟨rfl, ⟨rfl, ⟨rfl, ⟨rfl, trivial⟩⟩⟩⟩
        · have V := V.2 c
          refine wq_lload (pc := 103) dX3_bounding_103 rfl ?_
          refine wq_lload (pc := 105) dX3_bounding_105 rfl ?_
          refine wq_lcmp (pc := 107) dX3_bounding_107 ?_
          refine wq_if_ne (pc := 108) (tgt := 128) dX3_bounding_108 rfl (fun c => ?_) (fun c => ?_)
          · have V := V.1 c
            refine wq_iinc (L' := [some (.ref o), some (.int x1), some (.int x2), some (.int (x3 + (1 : Int32))), some (.long y3), none, some (.long y6), none, some (.long (y9 * y6)), none, some (.long (y12 * y3)), none]) (pc := 128) dX3_bounding_128 rfl (by rw [csti1]) (Nat.le_of_ble_eq_true rfl) rfl ?_
            refine wq_goto (pc := 131) (tgt := 4) dX3_bounding_131 rfl ?_
            exact wq_T.less V ⟨rfl, ⟨rfl, ⟨rfl, ⟨rfl, trivial⟩⟩⟩⟩
          · have V := V.2 c
            refine wq_aload_n (pc := 111) dX3_bounding_111 rfl rfl ?_
            refine tg28 (pc := 112) rfl dX3_bounding_112 ?_
            refine wq_iload_n (pc := 115) dX3_bounding_115 rfl rfl ?_
            refine tw_iald' (pc := 116) ok mia28 dX3_bounding_116 V (fun y13 V => ?_)
            refine wq_aload_n (pc := 117) dX3_bounding_117 rfl rfl ?_
            refine tg28 (pc := 118) rfl dX3_bounding_118 ?_
            refine wq_iload_n (pc := 121) dX3_bounding_121 rfl rfl ?_
            refine tw_iald' (pc := 122) ok mia28 dX3_bounding_122 V (fun y14 V => ?_)
            refine wq_icmp_ge (pc := 123) (tgt := 128) dX3_bounding_123 rfl (fun c => ?_) (fun c => ?_)
            · have V := V.1 c
              refine wq_iinc (L' := [some (.ref o), some (.int x1), some (.int x2), some (.int (x3 + (1 : Int32))), some (.long y3), none, some (.long y6), none, some (.long (y9 * y6)), none, some (.long (y12 * y3)), none]) (pc := 128) dX3_bounding_128 rfl (by rw [csti1]) (Nat.le_of_ble_eq_true rfl) rfl ?_
              refine wq_goto (pc := 131) (tgt := 4) dX3_bounding_131 rfl ?_
              exact wq_T.less V ⟨rfl, ⟨rfl, ⟨rfl, ⟨rfl, trivial⟩⟩⟩⟩
            · have V := V.2 c
              refine wq_iload_n (pc := 126) dX3_bounding_126 rfl rfl ?_
              refine wq_istore_n (L' := [some (.ref o), some (.int x1), some (.int x3), some (.int x3), some (.long y3), none, some (.long y6), none, some (.long (y9 * y6)), none, some (.long (y12 * y3)), none]) (pc := 127) dX3_bounding_127 rfl (Nat.le_of_ble_eq_true rfl) rfl ?_
              refine wq_iinc (L' := [some (.ref o), some (.int x1), some (.int x3), some (.int (x3 + (1 : Int32))), some (.long y3), none, some (.long y6), none, some (.long (y9 * y6)), none, some (.long (y12 * y3)), none]) (pc := 128) dX3_bounding_128 rfl (by rw [csti1]) (Nat.le_of_ble_eq_true rfl) rfl ?_
              refine wq_goto (pc := 131) (tgt := 4) dX3_bounding_131 rfl ?_
              exact wq_T.less V ⟨rfl, ⟨rfl, ⟨rfl, ⟨rfl, trivial⟩⟩⟩⟩
      · have V := V.2 c
        refine wq_iload_n (pc := 38) dX3_bounding_38 rfl rfl ?_
        refine wq_istore_n (L' := [some (.ref o), some (.int x1), some (.int x3), some (.int x3), some (.long y3), none, none, none, none, none, none, none]) (pc := 39) dX3_bounding_39 rfl (Nat.le_of_ble_eq_true rfl) rfl ?_
        refine wq_goto (pc := 40) (tgt := 128) dX3_bounding_40 rfl ?_
        refine wq_iinc (L' := [some (.ref o), some (.int x1), some (.int x3), some (.int (x3 + (1 : Int32))), some (.long y3), none, none, none, none, none, none, none]) (pc := 128) dX3_bounding_128 rfl (by rw [csti1]) (Nat.le_of_ble_eq_true rfl) rfl ?_
        refine wq_goto (pc := 131) (tgt := 4) dX3_bounding_131 rfl ?_
        exact wq_T.less V ⟨rfl, ⟨rfl, ⟨rfl, ⟨rfl, trivial⟩⟩⟩⟩
    · have V := V.2 c
      refine wq_goto (pc := 31) (tgt := 128) dX3_bounding_31 rfl ?_
      refine wq_iinc (L' := [some (.ref o), some (.int x1), some (.int x2), some (.int (x3 + (1 : Int32))), some (.long y3), none, none, none, none, none, none, none]) (pc := 128) dX3_bounding_128 rfl (by rw [csti1]) (Nat.le_of_ble_eq_true rfl) rfl ?_
      refine wq_goto (pc := 131) (tgt := 4) dX3_bounding_131 rfl ?_
      exact wq_T.less V ⟨rfl, ⟨rfl, ⟨rfl, ⟨rfl, trivial⟩⟩⟩⟩
theorem vX3_turnOver_0 {G : wq_G} {l : Launch} {o : Nat} {ad : Nat → Nat} {h : wq_H} {d : Nat} {K : tw_S → Prop} (ok : tw_ok G o ad)  {x1 : Int32} {x2 : Int32} {s : tw_S} (V : tw_ci G l o ad h d mX3_cell [.int x1, .int x2] s (fun y2 s1 => tw_ldl s1 y2 (fun y3 => tw_T G l o ad h d mX3_turnOver (tw_qv G o ad h K) 14 [some (.ref o), some (.int x1), some (.int x2), some (.long y3), none, some (.int (0 : Int32)), none, none, none] [] s1))) : tw_T G l o ad h d mX3_turnOver (tw_qv G o ad h K) 0 [some (.ref o), some (.int x1), some (.int x2), none, none, none, none, none, none] [] s := by
  refine wq_aload_n (pc := 0) dX3_turnOver_0 rfl rfl ?_
  refine tg27 (pc := 1) rfl dX3_turnOver_1 ?_
  refine wq_iload_n (pc := 4) dX3_turnOver_4 rfl rfl ?_
  refine wq_iload_n (pc := 5) dX3_turnOver_5 rfl rfl ?_
  refine tcq2002 (pc := 6) (As := [.int x1, .int x2]) (st := [.ref (ad 27)]) rfl dX3_turnOver_6 rfl (Nat.le_of_ble_eq_true rfl) V (tw_ki (fun y2 s1 V => ?_))
  refine tw_lald' (pc := 9) ok dX3_turnOver_9 V (fun y3 V => ?_)
  refine wq_lstore_n (L' := [some (.ref o), some (.int x1), some (.int x2), some (.long y3), none, none, none, none, none]) (pc := 10) dX3_turnOver_10 rfl (Nat.le_of_ble_eq_true rfl) rfl ?_
  refine wq_iconst (pc := 11) dX3_turnOver_11 csti0 ?_
  refine wq_istore (L' := [some (.ref o), some (.int x1), some (.int x2), some (.long y3), none, some (.int (0 : Int32)), none, none, none]) (pc := 12) dX3_turnOver_12 (Nat.le_of_ble_eq_true rfl) rfl ?_
  exact V
theorem vX3_turnOver_14 {G : wq_G} {l : Launch} {o : Nat} {ad : Nat → Nat} {h : wq_H} {d : Nat} {K : tw_S → Prop} (ok : tw_ok G o ad)  {x1 : Int32} {x2 : Int32} {x3 : Int64} {x5 : Int32} {s : tw_S} (V : (((s.1 30) + (1 : Int32)) < x5 → tw_ptv s x3 (fun s1 => tw_st s1 28 x1 x2 (fun s2 => K s2))) ∧ (¬ ((s.1 30) + (1 : Int32)) < x5 → (¬ x5 = x1 → tw_ci G l o ad h d mX3_cell [.int x5, .int x2] s (fun y4 s3 => tw_ldl s3 y4 (fun y5 => tw_T G l o ad h d mX3_turnOver (tw_qv G o ad h K) 50 [some (.ref o), some (.int x1), some (.int x2), some (.long x3), none, some (.int x5), some (.long y5), none, some (.int (0 : Int32))] [] s3))) ∧ (x5 = x1 → tw_T G l o ad h d mX3_turnOver (tw_qv G o ad h K) 14 [some (.ref o), some (.int x1), some (.int x2), some (.long x3), none, some (.int (x5 + (1 : Int32))), none, none, none] [] s))) : tw_T G l o ad h d mX3_turnOver (tw_qv G o ad h K) 14 [some (.ref o), some (.int x1), some (.int x2), some (.long x3), none, some (.int x5), none, none, none] [] s := by
  refine wq_iload (pc := 14) dX3_turnOver_14 rfl ?_
  refine wq_aload_n (pc := 16) dX3_turnOver_16 rfl rfl ?_
  refine tg30 (pc := 17) rfl dX3_turnOver_17 ?_
  refine wq_iconst (pc := 20) dX3_turnOver_20 csti1 ?_
  refine wq_iadd (pc := 21) dX3_turnOver_21 ?_
  refine wq_icmp_gt (pc := 22) (tgt := 117) dX3_turnOver_22 rfl (fun c => ?_) (fun c => ?_)
  · have V := V.1 c
    refine wq_aload_n (pc := 117) dX3_turnOver_117 rfl rfl ?_
    refine wq_lload_n (pc := 118) dX3_turnOver_118 rfl rfl ?_
    refine tp29 (pc := 119) rfl ok dX3_turnOver_119 V (fun s1 V => ?_)
    refine wq_aload_n (pc := 122) dX3_turnOver_122 rfl rfl ?_
    refine tg28 (pc := 123) rfl dX3_turnOver_123 ?_
    refine wq_iload_n (pc := 126) dX3_turnOver_126 rfl rfl ?_
    refine wq_iload_n (pc := 127) dX3_turnOver_127 rfl rfl ?_
    refine tw_iast' (pc := 128) ok mia28 dX3_turnOver_128 V (fun s2 V => ?_)
    refine wq_vret (pc := 129) dX3_turnOver_129 rfl ⟨_, rfl, rfl, V⟩
  · have V := V.2 c
    refine wq_iload (pc := 25) dX3_turnOver_25 rfl ?_
    refine wq_iload_n (pc := 27) dX3_turnOver_27 rfl rfl ?_
    refine wq_icmp_ne (pc := 28) (tgt := 34) dX3_turnOver_28 rfl (fun c => ?_) (fun c => ?_)
    · have V := V.1 c
      refine wq_aload_n (pc := 34) dX3_turnOver_34 rfl rfl ?_
      refine tg27 (pc := 35) rfl dX3_turnOver_35 ?_
      refine wq_iload (pc := 38) dX3_turnOver_38 rfl ?_
      refine wq_iload_n (pc := 40) dX3_turnOver_40 rfl rfl ?_
      refine tcq2002 (pc := 41) (As := [.int x5, .int x2]) (st := [.ref (ad 27)]) rfl dX3_turnOver_41 rfl (Nat.le_of_ble_eq_true rfl) V (tw_ki (fun y4 s3 V => ?_))
      refine tw_lald' (pc := 44) ok dX3_turnOver_44 V (fun y5 V => ?_)
      refine wq_lstore (L' := [some (.ref o), some (.int x1), some (.int x2), some (.long x3), none, some (.int x5), some (.long y5), none, none]) (pc := 45) dX3_turnOver_45 (Nat.le_of_ble_eq_true rfl) rfl ?_
      refine wq_iconst (pc := 47) dX3_turnOver_47 csti0 ?_
      refine wq_istore (L' := [some (.ref o), some (.int x1), some (.int x2), some (.long x3), none, some (.int x5), some (.long y5), none, some (.int (0 : Int32))]) (pc := 48) dX3_turnOver_48 (Nat.le_of_ble_eq_true rfl) rfl ?_
      exact V
    · have V := V.2 c
      refine wq_goto (pc := 31) (tgt := 111) dX3_turnOver_31 rfl ?_
      refine wq_iinc (L' := [some (.ref o), some (.int x1), some (.int x2), some (.long x3), none, some (.int (x5 + (1 : Int32))), none, none, none]) (pc := 111) dX3_turnOver_111 rfl (by rw [csti1]) (Nat.le_of_ble_eq_true rfl) rfl ?_
      refine wq_goto (pc := 114) (tgt := 14) dX3_turnOver_114 rfl ?_
      exact V
theorem vX3_turnOver_50 {G : wq_G} {l : Launch} {o : Nat} {ad : Nat → Nat} {h : wq_H} {d : Nat} {K : tw_S → Prop} (ok : tw_ok G o ad)  {x1 : Int32} {x2 : Int32} {x3 : Int64} {x5 : Int32} {x6 : Int64} {x8 : Int32} {s : tw_S} (V : ((s.1 31) ≤ x8 → tw_T G l o ad h d mX3_turnOver (tw_qv G o ad h K) 14 [some (.ref o), some (.int x1), some (.int x2), some (.long x3), none, some (.int (x5 + (1 : Int32))), none, none, none] [] s) ∧ (¬ (s.1 31) ≤ x8 → tw_ci G l o ad h d mX3_cell [.int x5, .int x8] s (fun y2 s1 => tw_ci G l o ad h d mX3_cell [.int x5, .int x8] s1 (fun y4 s3 => tw_ldl s3 y4 (fun y5 => tw_ci G l o ad h d mX3_cell [.int x1, .int x8] s3 (fun y7 s6 => tw_ldl s6 y7 (fun y8 => ¬ s6.2.2.2 = 0 ∧ (tw_stl s6 y2 (((y5 * x3) - (x6 * y8)) / s6.2.2.2) (fun s10 => tw_T G l o ad h d mX3_turnOver (tw_qv G o ad h K) 50 [some (.ref o), some (.int x1), some (.int x2), some (.long x3), none, some (.int x5), some (.long x6), none, some (.int (x8 + (1 : Int32)))] [] s10))))))))) : tw_T G l o ad h d mX3_turnOver (tw_qv G o ad h K) 50 [some (.ref o), some (.int x1), some (.int x2), some (.long x3), none, some (.int x5), some (.long x6), none, some (.int x8)] [] s := by
  refine wq_iload (pc := 50) dX3_turnOver_50 rfl ?_
  refine wq_aload_n (pc := 52) dX3_turnOver_52 rfl rfl ?_
  refine tg31 (pc := 53) rfl dX3_turnOver_53 ?_
  refine wq_icmp_ge (pc := 56) (tgt := 111) dX3_turnOver_56 rfl (fun c => ?_) (fun c => ?_)
  · have V := V.1 c
    refine wq_iinc (L' := [some (.ref o), some (.int x1), some (.int x2), some (.long x3), none, some (.int (x5 + (1 : Int32))), some (.long x6), none, some (.int x8)]) (pc := 111) dX3_turnOver_111 rfl (by rw [csti1]) (Nat.le_of_ble_eq_true rfl) rfl ?_
    refine wq_goto (pc := 114) (tgt := 14) dX3_turnOver_114 rfl ?_
    exact wq_T.less V ⟨rfl, ⟨rfl, ⟨rfl, ⟨rfl, ⟨rfl, trivial⟩⟩⟩⟩⟩
  · have V := V.2 c
    refine wq_aload_n (pc := 59) dX3_turnOver_59 rfl rfl ?_
    refine tg27 (pc := 60) rfl dX3_turnOver_60 ?_
    refine wq_iload (pc := 63) dX3_turnOver_63 rfl ?_
    refine wq_iload (pc := 65) dX3_turnOver_65 rfl ?_
    refine tcq2002 (pc := 67) (As := [.int x5, .int x8]) (st := [.ref (ad 27)]) rfl dX3_turnOver_67 rfl (Nat.le_of_ble_eq_true rfl) V (tw_ki (fun y2 s1 V => ?_))
    refine wq_aload_n (pc := 70) dX3_turnOver_70 rfl rfl ?_
    refine tg27 (pc := 71) rfl dX3_turnOver_71 ?_
    refine wq_iload (pc := 74) dX3_turnOver_74 rfl ?_
    refine wq_iload (pc := 76) dX3_turnOver_76 rfl ?_
    refine tcq2002 (pc := 78) (As := [.int x5, .int x8]) (st := [.ref (ad 27), .int y2, .ref (ad 27)]) rfl dX3_turnOver_78 rfl (Nat.le_of_ble_eq_true rfl) V (tw_ki (fun y4 s3 V => ?_))
    refine tw_lald' (pc := 81) ok dX3_turnOver_81 V (fun y5 V => ?_)
    refine wq_lload_n (pc := 82) dX3_turnOver_82 rfl rfl ?_
    refine wq_lmul (pc := 83) dX3_turnOver_83 ?_
    refine wq_lload (pc := 84) dX3_turnOver_84 rfl ?_
    refine wq_aload_n (pc := 86) dX3_turnOver_86 rfl rfl ?_
    refine tg27 (pc := 87) rfl dX3_turnOver_87 ?_
    refine wq_iload_n (pc := 90) dX3_turnOver_90 rfl rfl ?_
    refine wq_iload (pc := 91) dX3_turnOver_91 rfl ?_
    refine tcq2002 (pc := 93) (As := [.int x1, .int x8]) (st := [.ref (ad 27), .long x6, .long (y5 * x3), .int y2, .ref (ad 27)]) rfl dX3_turnOver_93 rfl (Nat.le_of_ble_eq_true rfl) V (tw_ki (fun y7 s6 V => ?_))
    refine tw_lald' (pc := 96) ok dX3_turnOver_96 V (fun y8 V => ?_)
    refine wq_lmul (pc := 97) dX3_turnOver_97 ?_
    refine wq_lsub (pc := 98) dX3_turnOver_98 ?_
    refine wq_aload_n (pc := 99) dX3_turnOver_99 rfl rfl ?_
    refine tg29 (pc := 100) rfl dX3_turnOver_100 ?_
    obtain ⟨w9, V⟩ := V
    refine wq_ldiv (pc := 103) dX3_turnOver_103 w9 ?_
    refine tw_last' (pc := 104) ok dX3_turnOver_104 V (fun s10 V => ?_)
    refine wq_iinc (L' := [some (.ref o), some (.int x1), some (.int x2), some (.long x3), none, some (.int x5), some (.long x6), none, some (.int (x8 + (1 : Int32)))]) (pc := 105) dX3_turnOver_105 rfl (by rw [csti1]) (Nat.le_of_ble_eq_true rfl) rfl ?_
    refine wq_goto (pc := 108) (tgt := 50) dX3_turnOver_108 rfl ?_
    exact V
theorem vX3_lowest_0 {G : wq_G} {l : Launch} {o : Nat} {ad : Nat → Nat} {h : wq_H} {d : Nat} {K : Int32 → tw_S → Prop} (ok : tw_ok G o ad)  {x0 : Int64} {x2 : Int64} {x4 : Int32} {s : tw_S} (V : tw_cl G l o ad h d mX3_common [.long x0, .long x2] s (fun y2 s1 => (x4 = 0 → ¬ y2 = 0 ∧ (K ((x0 / y2).toInt32) s1)) ∧ (¬ x4 = 0 → ¬ y2 = 0 ∧ (K ((x2 / y2).toInt32) s1)))) : tw_T G l o ad h d mX3_lowest (tw_qi G o ad h K) 0 [some (.long x0), none, some (.long x2), none, some (.int x4), none, none] [] s := by
  refine wq_lload_n (pc := 0) dX3_lowest_0 rfl rfl ?_
  refine wq_lload_n (pc := 1) dX3_lowest_1 rfl rfl ?_
  refine tcq2025 (pc := 2) (As := [.long x0, .long x2]) (st := []) rfl dX3_lowest_2 rfl (Nat.le_of_ble_eq_true rfl) V (tw_kl (fun y2 s1 V => ?_))
  refine wq_lstore (L' := [some (.long x0), none, some (.long x2), none, some (.int x4), some (.long y2), none]) (pc := 5) dX3_lowest_5 (Nat.le_of_ble_eq_true rfl) rfl ?_
  refine wq_iload (pc := 7) dX3_lowest_7 rfl ?_
  refine wq_if_eq (pc := 9) (tgt := 16) dX3_lowest_9 rfl (fun c => ?_) (fun c => ?_)
  · have V := V.1 c
    refine wq_lload_n (pc := 16) dX3_lowest_16 rfl rfl ?_
    refine wq_lload (pc := 17) dX3_lowest_17 rfl ?_
    obtain ⟨w3, V⟩ := V
    refine wq_ldiv (pc := 19) dX3_lowest_19 w3 ?_
    refine wq_l2i (pc := 20) dX3_lowest_20 ?_
    refine wq_iret (pc := 21) dX3_lowest_21 rfl ⟨_, _, rfl, rfl, V⟩
  · have V := V.2 c
    refine wq_lload_n (pc := 12) dX3_lowest_12 rfl rfl ?_
    refine wq_goto (pc := 13) (tgt := 17) dX3_lowest_13 rfl ?_
    refine wq_lload (pc := 17) dX3_lowest_17 rfl ?_
    obtain ⟨w4, V⟩ := V
    refine wq_ldiv (pc := 19) dX3_lowest_19 w4 ?_
    refine wq_l2i (pc := 20) dX3_lowest_20 ?_
    refine wq_iret (pc := 21) dX3_lowest_21 rfl ⟨_, _, rfl, rfl, V⟩
theorem vX3_common_0 {G : wq_G} {l : Launch} {o : Nat} {ad : Nat → Nat} {h : wq_H} {d : Nat} {K : Int64 → tw_S → Prop} (ok : tw_ok G o ad)  {x0 : Int64} {x2 : Int64} {s : tw_S} (V : tw_T G l o ad h d mX3_common (tw_ql G o ad h K) 6 [none, none, none, none, some (.long x0), none, some (.long x2), none, none, none] [] s) : tw_T G l o ad h d mX3_common (tw_ql G o ad h K) 0 [some (.long x0), none, some (.long x2), none, none, none, none, none, none, none] [] s := by
  refine wq_lload_n (pc := 0) dX3_common_0 rfl rfl ?_
  refine wq_lstore (L' := [some (.long x0), none, some (.long x2), none, some (.long x0), none, none, none, none, none]) (pc := 1) dX3_common_1 (Nat.le_of_ble_eq_true rfl) rfl ?_
  refine wq_lload_n (pc := 3) dX3_common_3 rfl rfl ?_
  refine wq_lstore (L' := [some (.long x0), none, some (.long x2), none, some (.long x0), none, some (.long x2), none, none, none]) (pc := 4) dX3_common_4 (Nat.le_of_ble_eq_true rfl) rfl ?_
  exact wq_T.less V ⟨rfl, ⟨rfl, trivial⟩⟩
theorem vX3_common_6 {G : wq_G} {l : Launch} {o : Nat} {ad : Nat → Nat} {h : wq_H} {d : Nat} {K : Int64 → tw_S → Prop} (ok : tw_ok G o ad)  {x4 : Int64} {x6 : Int64} {s : tw_S} (V : ((lg_cmp x6 (0 : Int64)) = 0 → K x4 s) ∧ (¬ (lg_cmp x6 (0 : Int64)) = 0 → ¬ x6 = 0 ∧ (tw_T G l o ad h d mX3_common (tw_ql G o ad h K) 6 [none, none, none, none, some (.long x6), none, some (.long (x4 - x4 / x6 * x6)), none, none, none] [] s))) : tw_T G l o ad h d mX3_common (tw_ql G o ad h K) 6 [none, none, none, none, some (.long x4), none, some (.long x6), none, none, none] [] s := by
  refine wq_lload (pc := 6) dX3_common_6 rfl ?_
  refine wq_lconst (pc := 8) dX3_common_8 cstl0 ?_
  refine wq_lcmp (pc := 9) dX3_common_9 ?_
  refine wq_if_eq (pc := 10) (tgt := 31) dX3_common_10 rfl (fun c => ?_) (fun c => ?_)
  · have V := V.1 c
    refine wq_lload (pc := 31) dX3_common_31 rfl ?_
    refine wq_lret (pc := 33) dX3_common_33 rfl ⟨_, _, rfl, rfl, V⟩
  · have V := V.2 c
    refine wq_lload (pc := 13) dX3_common_13 rfl ?_
    refine wq_lload (pc := 15) dX3_common_15 rfl ?_
    obtain ⟨w1, V⟩ := V
    refine wq_lrem (pc := 17) dX3_common_17 w1 ?_
    refine wq_lstore (L' := [none, none, none, none, some (.long x4), none, some (.long x6), none, some (.long (x4 - x4 / x6 * x6)), none]) (pc := 18) dX3_common_18 (Nat.le_of_ble_eq_true rfl) rfl ?_
    refine wq_lload (pc := 20) dX3_common_20 rfl ?_
    refine wq_lstore (L' := [none, none, none, none, some (.long x6), none, some (.long x6), none, some (.long (x4 - x4 / x6 * x6)), none]) (pc := 22) dX3_common_22 (Nat.le_of_ble_eq_true rfl) rfl ?_
    refine wq_lload (pc := 24) dX3_common_24 rfl ?_
    refine wq_lstore (L' := [none, none, none, none, some (.long x6), none, some (.long (x4 - x4 / x6 * x6)), none, some (.long (x4 - x4 / x6 * x6)), none]) (pc := 26) dX3_common_26 (Nat.le_of_ble_eq_true rfl) rfl ?_
    refine wq_goto (pc := 28) (tgt := 6) dX3_common_28 rfl ?_
    exact wq_T.less V ⟨rfl, ⟨rfl, trivial⟩⟩
theorem vX3_together_0 {G : wq_G} {l : Launch} {o : Nat} {ad : Nat → Nat} {h : wq_H} {d : Nat} {K : Int32 → tw_S → Prop} (ok : tw_ok G o ad)  {x1 : Int32} {x2 : Int32} {x3 : Int32} {x4 : Int32} {x5 : Int32} {x6 : Int32} {s : tw_S} (V : tw_cv G l o ad h d mX3_good [.ref o] s (fun s1 => tw_ci G l o ad h d mX3_isLook [.ref o, .int x1] s1 (fun y3 s2 => (y3 = 0 → tw_ci G l o ad h d mX3_no [.ref o, .int (1 : Int32)] s2 (fun y5 s4 => K y5 s4)) ∧ (¬ y3 = 0 → tw_ci G l o ad h d mX3_isLook [.ref o, .int x3] s2 (fun y7 s6 => (y7 = 0 → tw_ci G l o ad h d mX3_no [.ref o, .int (1 : Int32)] s6 (fun y9 s8 => K y9 s8)) ∧ (¬ y7 = 0 → (x1 = x3 → tw_ci G l o ad h d mX3_no [.ref o, .int (1 : Int32)] s6 (fun y11 s10 => K y11 s10)) ∧ (¬ x1 = x3 → tw_ci G l o ad h d mX3_isBit [.int x2] s6 (fun y13 s12 => (y13 = 0 → tw_ci G l o ad h d mX3_no [.ref o, .int (1 : Int32)] s12 (fun y15 s14 => K y15 s14)) ∧ (¬ y13 = 0 → tw_ci G l o ad h d mX3_isBit [.int x4] s12 (fun y17 s16 => (¬ y17 = 0 → tw_ci G l o ad h d mX3_isMixed [.ref o] s16 (fun y19 s18 => (¬ y19 = 0 → tw_ld s18 15 (0 : Int32) (fun y20 => (¬ y20 = 0 → (x5 = 0 → tw_T G l o ad h d mX3_together (tw_qi G o ad h K) 102 [some (.ref o), some (.int x1), some (.int x2), some (.int x3), some (.int x4), none, some (.int x6), some (.long (1 : Int64)), none, some (.int (0 : Int32)), none, none, none] [] s18) ∧ (¬ x5 = 0 → tw_T G l o ad h d mX3_together (tw_qi G o ad h K) 102 [some (.ref o), some (.int x1), some (.int x2), some (.int x3), some (.int x4), none, some (.int x6), some (.long (-1 : Int64)), none, some (.int (0 : Int32)), none, none, none] [] s18)) ∧ (y20 = 0 → (¬ x6 = 0 → K (1 : Int32) s18) ∧ (x6 = 0 → (x5 = 0 → K (0 : Int32) s18) ∧ (¬ x5 = 0 → K (1 : Int32) s18))))) ∧ (y19 = 0 → tw_ci G l o ad h d mX3_no [.ref o, .int (6 : Int32)] s18 (fun y22 s21 => K y22 s21)))) ∧ (y17 = 0 → tw_ci G l o ad h d mX3_no [.ref o, .int (1 : Int32)] s16 (fun y24 s23 => K y24 s23)))))))))))) : tw_T G l o ad h d mX3_together (tw_qi G o ad h K) 0 [some (.ref o), some (.int x1), some (.int x2), some (.int x3), some (.int x4), some (.int x5), some (.int x6), none, none, none, none, none, none] [] s := by
  refine wq_aload_n (pc := 0) dX3_together_0 rfl rfl ?_
  refine tcq1836 (pc := 1) (As := []) (st := []) rfl dX3_together_1 rfl (Nat.le_of_ble_eq_true rfl) V (tw_kv (fun s1 V => ?_))
  refine wq_aload_n (pc := 4) dX3_together_4 rfl rfl ?_
  refine wq_iload_n (pc := 5) dX3_together_5 rfl rfl ?_
  refine tcq2032 (pc := 6) (As := [.int x1]) (st := []) rfl dX3_together_6 rfl (Nat.le_of_ble_eq_true rfl) V (tw_ki (fun y3 s2 V => ?_))
  refine wq_if_eq (pc := 9) (tgt := 40) dX3_together_9 rfl (fun c => ?_) (fun c => ?_)
  · have V := V.1 c
    refine wq_aload_n (pc := 40) dX3_together_40 rfl rfl ?_
    refine wq_iconst (pc := 41) dX3_together_41 csti1 ?_
    refine tcq1843 (pc := 42) (As := [.int (1 : Int32)]) (st := []) rfl dX3_together_42 rfl (Nat.le_of_ble_eq_true rfl) V (tw_ki (fun y5 s4 V => ?_))
    refine wq_iret (pc := 45) dX3_together_45 rfl ⟨_, _, rfl, rfl, V⟩
  · have V := V.2 c
    refine wq_aload_n (pc := 12) dX3_together_12 rfl rfl ?_
    refine wq_iload_n (pc := 13) dX3_together_13 rfl rfl ?_
    refine tcq2032 (pc := 14) (As := [.int x3]) (st := []) rfl dX3_together_14 rfl (Nat.le_of_ble_eq_true rfl) V (tw_ki (fun y7 s6 V => ?_))
    refine wq_if_eq (pc := 17) (tgt := 40) dX3_together_17 rfl (fun c => ?_) (fun c => ?_)
    · have V := V.1 c
      refine wq_aload_n (pc := 40) dX3_together_40 rfl rfl ?_
      refine wq_iconst (pc := 41) dX3_together_41 csti1 ?_
      refine tcq1843 (pc := 42) (As := [.int (1 : Int32)]) (st := []) rfl dX3_together_42 rfl (Nat.le_of_ble_eq_true rfl) V (tw_ki (fun y9 s8 V => ?_))
      refine wq_iret (pc := 45) dX3_together_45 rfl ⟨_, _, rfl, rfl, V⟩
    · have V := V.2 c
      refine wq_iload_n (pc := 20) dX3_together_20 rfl rfl ?_
      refine wq_iload_n (pc := 21) dX3_together_21 rfl rfl ?_
      refine wq_icmp_eq (pc := 22) (tgt := 40) dX3_together_22 rfl (fun c => ?_) (fun c => ?_)
      · have V := V.1 c
        refine wq_aload_n (pc := 40) dX3_together_40 rfl rfl ?_
        refine wq_iconst (pc := 41) dX3_together_41 csti1 ?_
        refine tcq1843 (pc := 42) (As := [.int (1 : Int32)]) (st := []) rfl dX3_together_42 rfl (Nat.le_of_ble_eq_true rfl) V (tw_ki (fun y11 s10 V => ?_))
        refine wq_iret (pc := 45) dX3_together_45 rfl ⟨_, _, rfl, rfl, V⟩
      · have V := V.2 c
        refine wq_iload_n (pc := 25) dX3_together_25 rfl rfl ?_
        refine tcq2036 (pc := 26) (As := [.int x2]) (st := []) rfl dX3_together_26 rfl (Nat.le_of_ble_eq_true rfl) V (tw_ki (fun y13 s12 V => ?_))
        refine wq_if_eq (pc := 29) (tgt := 40) dX3_together_29 rfl (fun c => ?_) (fun c => ?_)
        · have V := V.1 c
          refine wq_aload_n (pc := 40) dX3_together_40 rfl rfl ?_
          refine wq_iconst (pc := 41) dX3_together_41 csti1 ?_
          refine tcq1843 (pc := 42) (As := [.int (1 : Int32)]) (st := []) rfl dX3_together_42 rfl (Nat.le_of_ble_eq_true rfl) V (tw_ki (fun y15 s14 V => ?_))
          refine wq_iret (pc := 45) dX3_together_45 rfl ⟨_, _, rfl, rfl, V⟩
        · have V := V.2 c
          refine wq_iload (pc := 32) dX3_together_32 rfl ?_
          refine tcq2036 (pc := 34) (As := [.int x4]) (st := []) rfl dX3_together_34 rfl (Nat.le_of_ble_eq_true rfl) V (tw_ki (fun y17 s16 V => ?_))
          refine wq_if_ne (pc := 37) (tgt := 46) dX3_together_37 rfl (fun c => ?_) (fun c => ?_)
          · have V := V.1 c
            refine wq_aload_n (pc := 46) dX3_together_46 rfl rfl ?_
            refine tcq1987 (pc := 47) (As := []) (st := []) rfl dX3_together_47 rfl (Nat.le_of_ble_eq_true rfl) V (tw_ki (fun y19 s18 V => ?_))
            refine wq_if_ne (pc := 50) (tgt := 60) dX3_together_50 rfl (fun c => ?_) (fun c => ?_)
            · have V := V.1 c
              refine wq_aload_n (pc := 60) dX3_together_60 rfl rfl ?_
              refine tg15 (pc := 61) rfl dX3_together_61 ?_
              refine wq_iconst (pc := 64) dX3_together_64 csti0 ?_
              refine tw_iald' (pc := 65) ok mia15 dX3_together_65 V (fun y20 V => ?_)
              refine wq_if_ne (pc := 66) (tgt := 85) dX3_together_66 rfl (fun c => ?_) (fun c => ?_)
              · have V := V.1 c
                refine wq_iload (pc := 85) dX3_together_85 rfl ?_
                refine wq_if_eq (pc := 87) (tgt := 96) dX3_together_87 rfl (fun c => ?_) (fun c => ?_)
                · have V := V.1 c
                  refine wq_lconst (pc := 96) dX3_together_96 cstl1 ?_
                  refine wq_lstore (L' := [some (.ref o), some (.int x1), some (.int x2), some (.int x3), some (.int x4), some (.int x5), some (.int x6), some (.long (1 : Int64)), none, none, none, none, none]) (pc := 97) dX3_together_97 (Nat.le_of_ble_eq_true rfl) rfl ?_
                  refine wq_iconst (pc := 99) dX3_together_99 csti0 ?_
                  refine wq_istore (L' := [some (.ref o), some (.int x1), some (.int x2), some (.int x3), some (.int x4), some (.int x5), some (.int x6), some (.long (1 : Int64)), none, some (.int (0 : Int32)), none, none, none]) (pc := 100) dX3_together_100 (Nat.le_of_ble_eq_true rfl) rfl ?_
                  exact wq_T.less V ⟨rfl, ⟨rfl, ⟨rfl, ⟨rfl, ⟨rfl, ⟨rfl, ⟨rfl, ⟨rfl, trivial⟩⟩⟩⟩⟩⟩⟩⟩
                · have V := V.2 c
                  refine wq_ldc2 (pc := 90) (v := (-1 : Int64)) q2009 dX3_together_90 ?_
                  refine wq_goto (pc := 93) (tgt := 97) dX3_together_93 rfl ?_
                  refine wq_lstore (L' := [some (.ref o), some (.int x1), some (.int x2), some (.int x3), some (.int x4), some (.int x5), some (.int x6), some (.long (-1 : Int64)), none, none, none, none, none]) (pc := 97) dX3_together_97 (Nat.le_of_ble_eq_true rfl) rfl ?_
                  refine wq_iconst (pc := 99) dX3_together_99 csti0 ?_
                  refine wq_istore (L' := [some (.ref o), some (.int x1), some (.int x2), some (.int x3), some (.int x4), some (.int x5), some (.int x6), some (.long (-1 : Int64)), none, some (.int (0 : Int32)), none, none, none]) (pc := 100) dX3_together_100 (Nat.le_of_ble_eq_true rfl) rfl ?_
                  exact wq_T.less V ⟨rfl, ⟨rfl, ⟨rfl, ⟨rfl, ⟨rfl, ⟨rfl, ⟨rfl, ⟨rfl, trivial⟩⟩⟩⟩⟩⟩⟩⟩
              · have V := V.2 c
                refine wq_iload (pc := 69) dX3_together_69 rfl ?_
                refine wq_if_ne (pc := 71) (tgt := 79) dX3_together_71 rfl (fun c => ?_) (fun c => ?_)
                · have V := V.1 c
                  refine wq_iconst (pc := 79) dX3_together_79 csti1 ?_
                  refine wq_goto (pc := 80) (tgt := 84) dX3_together_80 rfl ?_
                  refine wq_iret (pc := 84) dX3_together_84 rfl ⟨_, _, rfl, rfl, V⟩
                · have V := V.2 c
                  refine wq_iload (pc := 74) dX3_together_74 rfl ?_
                  refine wq_if_eq (pc := 76) (tgt := 83) dX3_together_76 rfl (fun c => ?_) (fun c => ?_)
                  · have V := V.1 c
                    refine wq_iconst (pc := 83) dX3_together_83 csti0 ?_
                    refine wq_iret (pc := 84) dX3_together_84 rfl ⟨_, _, rfl, rfl, V⟩
                  · have V := V.2 c
                    refine wq_iconst (pc := 79) dX3_together_79 csti1 ?_
                    refine wq_goto (pc := 80) (tgt := 84) dX3_together_80 rfl ?_
                    refine wq_iret (pc := 84) dX3_together_84 rfl ⟨_, _, rfl, rfl, V⟩
            · have V := V.2 c
              refine wq_aload_n (pc := 53) dX3_together_53 rfl rfl ?_
              refine wq_bipush (pc := 54) dX3_together_54 cstb6 ?_
              refine tcq1843 (pc := 56) (As := [.int (6 : Int32)]) (st := []) rfl dX3_together_56 rfl (Nat.le_of_ble_eq_true rfl) V (tw_ki (fun y22 s21 V => ?_))
              refine wq_iret (pc := 59) dX3_together_59 rfl ⟨_, _, rfl, rfl, V⟩
          · have V := V.2 c
            refine wq_aload_n (pc := 40) dX3_together_40 rfl rfl ?_
            refine wq_iconst (pc := 41) dX3_together_41 csti1 ?_
            refine tcq1843 (pc := 42) (As := [.int (1 : Int32)]) (st := []) rfl dX3_together_42 rfl (Nat.le_of_ble_eq_true rfl) V (tw_ki (fun y24 s23 V => ?_))
            refine wq_iret (pc := 45) dX3_together_45 rfl ⟨_, _, rfl, rfl, V⟩
theorem vX3_together_102 {G : wq_G} {l : Launch} {o : Nat} {ad : Nat → Nat} {h : wq_H} {d : Nat} {K : Int32 → tw_S → Prop} (ok : tw_ok G o ad)  {x1 : Int32} {x2 : Int32} {x3 : Int32} {x4 : Int32} {x6 : Int32} {x7 : Int64} {x9 : Int32} {s : tw_S} (V : ((s.1 31) ≤ x9 → tw_T G l o ad h d mX3_together (tw_qi G o ad h K) 189 [some (.ref o), some (.int x1), some (.int x2), some (.int x3), some (.int x4), none, some (.int x6), some (.long x7), none, some (.int (0 : Int32)), none, none, none] [] s) ∧ (¬ (s.1 31) ≤ x9 → tw_ci G l o ad h d mX3_hiddenMany [.ref o] s (fun y2 s1 => (y2 ≤ x9 → tw_ci G l o ad h d mX3_cell [.int ((s1.1 30) + (1 : Int32)), .int x9] s1 (fun y4 s3 => ((0 : Int32) = 0 → tw_stl s3 y4 (0 : Int64) (fun s5 => tw_T G l o ad h d mX3_together (tw_qi G o ad h K) 102 [some (.ref o), some (.int x1), some (.int x2), some (.int x3), some (.int x4), none, some (.int x6), some (.long x7), none, some (.int (x9 + (1 : Int32))), none, none, none] [] s5)) ∧ (¬ (0 : Int32) = 0 → tw_stl s3 y4 (x7 * s3.2.2.2) (fun s6 => tw_T G l o ad h d mX3_together (tw_qi G o ad h K) 102 [some (.ref o), some (.int x1), some (.int x2), some (.int x3), some (.int x4), none, some (.int x6), some (.long x7), none, some (.int (x9 + (1 : Int32))), none, none, none] [] s6)))) ∧ (¬ y2 ≤ x9 → (¬ ((x9 >>> (x1 &&& 31)) &&& (1 : Int32)) = x2 → tw_ci G l o ad h d mX3_cell [.int ((s1.1 30) + (1 : Int32)), .int x9] s1 (fun y8 s7 => ((0 : Int32) = 0 → tw_stl s7 y8 (0 : Int64) (fun s9 => tw_T G l o ad h d mX3_together (tw_qi G o ad h K) 102 [some (.ref o), some (.int x1), some (.int x2), some (.int x3), some (.int x4), none, some (.int x6), some (.long x7), none, some (.int (x9 + (1 : Int32))), none, none, none] [] s9)) ∧ (¬ (0 : Int32) = 0 → tw_stl s7 y8 (x7 * s7.2.2.2) (fun s10 => tw_T G l o ad h d mX3_together (tw_qi G o ad h K) 102 [some (.ref o), some (.int x1), some (.int x2), some (.int x3), some (.int x4), none, some (.int x6), some (.long x7), none, some (.int (x9 + (1 : Int32))), none, none, none] [] s10)))) ∧ (((x9 >>> (x1 &&& 31)) &&& (1 : Int32)) = x2 → (¬ ((x9 >>> (x3 &&& 31)) &&& (1 : Int32)) = x4 → tw_ci G l o ad h d mX3_cell [.int ((s1.1 30) + (1 : Int32)), .int x9] s1 (fun y12 s11 => ((0 : Int32) = 0 → tw_stl s11 y12 (0 : Int64) (fun s13 => tw_T G l o ad h d mX3_together (tw_qi G o ad h K) 102 [some (.ref o), some (.int x1), some (.int x2), some (.int x3), some (.int x4), none, some (.int x6), some (.long x7), none, some (.int (x9 + (1 : Int32))), none, none, none] [] s13)) ∧ (¬ (0 : Int32) = 0 → tw_stl s11 y12 (x7 * s11.2.2.2) (fun s14 => tw_T G l o ad h d mX3_together (tw_qi G o ad h K) 102 [some (.ref o), some (.int x1), some (.int x2), some (.int x3), some (.int x4), none, some (.int x6), some (.long x7), none, some (.int (x9 + (1 : Int32))), none, none, none] [] s14)))) ∧ (((x9 >>> (x3 &&& 31)) &&& (1 : Int32)) = x4 → tw_ci G l o ad h d mX3_cell [.int ((s1.1 30) + (1 : Int32)), .int x9] s1 (fun y16 s15 => ((1 : Int32) = 0 → tw_stl s15 y16 (0 : Int64) (fun s17 => tw_T G l o ad h d mX3_together (tw_qi G o ad h K) 102 [some (.ref o), some (.int x1), some (.int x2), some (.int x3), some (.int x4), none, some (.int x6), some (.long x7), none, some (.int (x9 + (1 : Int32))), none, none, none] [] s17)) ∧ (¬ (1 : Int32) = 0 → tw_stl s15 y16 (x7 * s15.2.2.2) (fun s18 => tw_T G l o ad h d mX3_together (tw_qi G o ad h K) 102 [some (.ref o), some (.int x1), some (.int x2), some (.int x3), some (.int x4), none, some (.int x6), some (.long x7), none, some (.int (x9 + (1 : Int32))), none, none, none] [] s18))))))))) : tw_T G l o ad h d mX3_together (tw_qi G o ad h K) 102 [some (.ref o), some (.int x1), some (.int x2), some (.int x3), some (.int x4), none, some (.int x6), some (.long x7), none, some (.int x9), none, none, none] [] s := by
  refine wq_iload (pc := 102) dX3_together_102 rfl ?_
  refine wq_aload_n (pc := 104) dX3_together_104 rfl rfl ?_
  refine tg31 (pc := 105) rfl dX3_together_105 ?_
  refine wq_icmp_ge (pc := 108) (tgt := 186) dX3_together_108 rfl (fun c => ?_) (fun c => ?_)
  · have V := V.1 c
    refine wq_iconst (pc := 186) dX3_together_186 csti0 ?_
    refine wq_istore (L' := [some (.ref o), some (.int x1), some (.int x2), some (.int x3), some (.int x4), none, some (.int x6), some (.long x7), none, some (.int (0 : Int32)), none, none, none]) (pc := 187) dX3_together_187 (Nat.le_of_ble_eq_true rfl) rfl ?_
    exact V
  · have V := V.2 c
    refine wq_iload (pc := 111) dX3_together_111 rfl ?_
    refine wq_aload_n (pc := 113) dX3_together_113 rfl rfl ?_
    refine tcq1995 (pc := 114) (As := []) (st := [.int x9]) rfl dX3_together_114 rfl (Nat.le_of_ble_eq_true rfl) V (tw_ki (fun y2 s1 V => ?_))
    refine wq_icmp_ge (pc := 117) (tgt := 145) dX3_together_117 rfl (fun c => ?_) (fun c => ?_)
    · have V := V.1 c
      refine wq_iconst (pc := 145) dX3_together_145 csti0 ?_
      refine wq_istore (L' := [some (.ref o), some (.int x1), some (.int x2), some (.int x3), some (.int x4), none, some (.int x6), some (.long x7), none, some (.int x9), some (.int (0 : Int32)), none, none]) (pc := 146) dX3_together_146 (Nat.le_of_ble_eq_true rfl) rfl ?_
      refine wq_aload_n (pc := 148) dX3_together_148 rfl rfl ?_
      refine tg27 (pc := 149) rfl dX3_together_149 ?_
      refine wq_aload_n (pc := 152) dX3_together_152 rfl rfl ?_
      refine tg30 (pc := 153) rfl dX3_together_153 ?_
      refine wq_iconst (pc := 156) dX3_together_156 csti1 ?_
      refine wq_iadd (pc := 157) dX3_together_157 ?_
      refine wq_iload (pc := 158) dX3_together_158 rfl ?_
      refine tcq2002 (pc := 160) (As := [.int ((s1.1 30) + (1 : Int32)), .int x9]) (st := [.ref (ad 27)]) rfl dX3_together_160 rfl (Nat.le_of_ble_eq_true rfl) V (tw_ki (fun y4 s3 V => ?_))
      refine wq_iload (pc := 163) dX3_together_163 rfl ?_
      refine wq_if_eq (pc := 165) (tgt := 178) dX3_together_165 rfl (fun c => ?_) (fun c => ?_)
      · have V := V.1 c
        refine wq_lconst (pc := 178) dX3_together_178 cstl0 ?_
        refine tw_last' (pc := 179) ok dX3_together_179 V (fun s5 V => ?_)
        refine wq_iinc (L' := [some (.ref o), some (.int x1), some (.int x2), some (.int x3), some (.int x4), none, some (.int x6), some (.long x7), none, some (.int (x9 + (1 : Int32))), some (.int (0 : Int32)), none, none]) (pc := 180) dX3_together_180 rfl (by rw [csti1]) (Nat.le_of_ble_eq_true rfl) rfl ?_
        refine wq_goto (pc := 183) (tgt := 102) dX3_together_183 rfl ?_
        exact wq_T.less V ⟨rfl, ⟨rfl, ⟨rfl, ⟨rfl, ⟨rfl, ⟨rfl, ⟨rfl, ⟨rfl, trivial⟩⟩⟩⟩⟩⟩⟩⟩
      · have V := V.2 c
        refine wq_lload (pc := 168) dX3_together_168 rfl ?_
        refine wq_aload_n (pc := 170) dX3_together_170 rfl rfl ?_
        refine tg29 (pc := 171) rfl dX3_together_171 ?_
        refine wq_lmul (pc := 174) dX3_together_174 ?_
        refine wq_goto (pc := 175) (tgt := 179) dX3_together_175 rfl ?_
        refine tw_last' (pc := 179) ok dX3_together_179 V (fun s6 V => ?_)
        refine wq_iinc (L' := [some (.ref o), some (.int x1), some (.int x2), some (.int x3), some (.int x4), none, some (.int x6), some (.long x7), none, some (.int (x9 + (1 : Int32))), some (.int (0 : Int32)), none, none]) (pc := 180) dX3_together_180 rfl (by rw [csti1]) (Nat.le_of_ble_eq_true rfl) rfl ?_
        refine wq_goto (pc := 183) (tgt := 102) dX3_together_183 rfl ?_
        exact wq_T.less V ⟨rfl, ⟨rfl, ⟨rfl, ⟨rfl, ⟨rfl, ⟨rfl, ⟨rfl, ⟨rfl, trivial⟩⟩⟩⟩⟩⟩⟩⟩
    · have V := V.2 c
      refine wq_iload (pc := 120) dX3_together_120 rfl ?_
      refine wq_iload_n (pc := 122) dX3_together_122 rfl rfl ?_
      refine wq_ishr (pc := 123) dX3_together_123 ?_
      refine wq_iconst (pc := 124) dX3_together_124 csti1 ?_
      refine wq_iand (pc := 125) dX3_together_125 ?_
      refine wq_iload_n (pc := 126) dX3_together_126 rfl rfl ?_
      refine wq_icmp_ne (pc := 127) (tgt := 145) dX3_together_127 rfl (fun c => ?_) (fun c => ?_)
      · have V := V.1 c
        refine wq_iconst (pc := 145) dX3_together_145 csti0 ?_
        refine wq_istore (L' := [some (.ref o), some (.int x1), some (.int x2), some (.int x3), some (.int x4), none, some (.int x6), some (.long x7), none, some (.int x9), some (.int (0 : Int32)), none, none]) (pc := 146) dX3_together_146 (Nat.le_of_ble_eq_true rfl) rfl ?_
        refine wq_aload_n (pc := 148) dX3_together_148 rfl rfl ?_
        refine tg27 (pc := 149) rfl dX3_together_149 ?_
        refine wq_aload_n (pc := 152) dX3_together_152 rfl rfl ?_
        refine tg30 (pc := 153) rfl dX3_together_153 ?_
        refine wq_iconst (pc := 156) dX3_together_156 csti1 ?_
        refine wq_iadd (pc := 157) dX3_together_157 ?_
        refine wq_iload (pc := 158) dX3_together_158 rfl ?_
        refine tcq2002 (pc := 160) (As := [.int ((s1.1 30) + (1 : Int32)), .int x9]) (st := [.ref (ad 27)]) rfl dX3_together_160 rfl (Nat.le_of_ble_eq_true rfl) V (tw_ki (fun y8 s7 V => ?_))
        refine wq_iload (pc := 163) dX3_together_163 rfl ?_
        refine wq_if_eq (pc := 165) (tgt := 178) dX3_together_165 rfl (fun c => ?_) (fun c => ?_)
        · have V := V.1 c
          refine wq_lconst (pc := 178) dX3_together_178 cstl0 ?_
          refine tw_last' (pc := 179) ok dX3_together_179 V (fun s9 V => ?_)
          refine wq_iinc (L' := [some (.ref o), some (.int x1), some (.int x2), some (.int x3), some (.int x4), none, some (.int x6), some (.long x7), none, some (.int (x9 + (1 : Int32))), some (.int (0 : Int32)), none, none]) (pc := 180) dX3_together_180 rfl (by rw [csti1]) (Nat.le_of_ble_eq_true rfl) rfl ?_
          refine wq_goto (pc := 183) (tgt := 102) dX3_together_183 rfl ?_
          exact wq_T.less V ⟨rfl, ⟨rfl, ⟨rfl, ⟨rfl, ⟨rfl, ⟨rfl, ⟨rfl, ⟨rfl, trivial⟩⟩⟩⟩⟩⟩⟩⟩
        · have V := V.2 c
          refine wq_lload (pc := 168) dX3_together_168 rfl ?_
          refine wq_aload_n (pc := 170) dX3_together_170 rfl rfl ?_
          refine tg29 (pc := 171) rfl dX3_together_171 ?_
          refine wq_lmul (pc := 174) dX3_together_174 ?_
          refine wq_goto (pc := 175) (tgt := 179) dX3_together_175 rfl ?_
          refine tw_last' (pc := 179) ok dX3_together_179 V (fun s10 V => ?_)
          refine wq_iinc (L' := [some (.ref o), some (.int x1), some (.int x2), some (.int x3), some (.int x4), none, some (.int x6), some (.long x7), none, some (.int (x9 + (1 : Int32))), some (.int (0 : Int32)), none, none]) (pc := 180) dX3_together_180 rfl (by rw [csti1]) (Nat.le_of_ble_eq_true rfl) rfl ?_
          refine wq_goto (pc := 183) (tgt := 102) dX3_together_183 rfl ?_
          exact wq_T.less V ⟨rfl, ⟨rfl, ⟨rfl, ⟨rfl, ⟨rfl, ⟨rfl, ⟨rfl, ⟨rfl, trivial⟩⟩⟩⟩⟩⟩⟩⟩
      · have V := V.2 c
        refine wq_iload (pc := 130) dX3_together_130 rfl ?_
        refine wq_iload_n (pc := 132) dX3_together_132 rfl rfl ?_
        refine wq_ishr (pc := 133) dX3_together_133 ?_
        refine wq_iconst (pc := 134) dX3_together_134 csti1 ?_
        refine wq_iand (pc := 135) dX3_together_135 ?_
        refine wq_iload (pc := 136) dX3_together_136 rfl ?_
        refine wq_icmp_ne (pc := 138) (tgt := 145) dX3_together_138 rfl (fun c => ?_) (fun c => ?_)
        · have V := V.1 c
          refine wq_iconst (pc := 145) dX3_together_145 csti0 ?_
          refine wq_istore (L' := [some (.ref o), some (.int x1), some (.int x2), some (.int x3), some (.int x4), none, some (.int x6), some (.long x7), none, some (.int x9), some (.int (0 : Int32)), none, none]) (pc := 146) dX3_together_146 (Nat.le_of_ble_eq_true rfl) rfl ?_
          refine wq_aload_n (pc := 148) dX3_together_148 rfl rfl ?_
          refine tg27 (pc := 149) rfl dX3_together_149 ?_
          refine wq_aload_n (pc := 152) dX3_together_152 rfl rfl ?_
          refine tg30 (pc := 153) rfl dX3_together_153 ?_
          refine wq_iconst (pc := 156) dX3_together_156 csti1 ?_
          refine wq_iadd (pc := 157) dX3_together_157 ?_
          refine wq_iload (pc := 158) dX3_together_158 rfl ?_
          refine tcq2002 (pc := 160) (As := [.int ((s1.1 30) + (1 : Int32)), .int x9]) (st := [.ref (ad 27)]) rfl dX3_together_160 rfl (Nat.le_of_ble_eq_true rfl) V (tw_ki (fun y12 s11 V => ?_))
          refine wq_iload (pc := 163) dX3_together_163 rfl ?_
          refine wq_if_eq (pc := 165) (tgt := 178) dX3_together_165 rfl (fun c => ?_) (fun c => ?_)
          · have V := V.1 c
            refine wq_lconst (pc := 178) dX3_together_178 cstl0 ?_
            refine tw_last' (pc := 179) ok dX3_together_179 V (fun s13 V => ?_)
            refine wq_iinc (L' := [some (.ref o), some (.int x1), some (.int x2), some (.int x3), some (.int x4), none, some (.int x6), some (.long x7), none, some (.int (x9 + (1 : Int32))), some (.int (0 : Int32)), none, none]) (pc := 180) dX3_together_180 rfl (by rw [csti1]) (Nat.le_of_ble_eq_true rfl) rfl ?_
            refine wq_goto (pc := 183) (tgt := 102) dX3_together_183 rfl ?_
            exact wq_T.less V ⟨rfl, ⟨rfl, ⟨rfl, ⟨rfl, ⟨rfl, ⟨rfl, ⟨rfl, ⟨rfl, trivial⟩⟩⟩⟩⟩⟩⟩⟩
          · have V := V.2 c
            refine wq_lload (pc := 168) dX3_together_168 rfl ?_
            refine wq_aload_n (pc := 170) dX3_together_170 rfl rfl ?_
            refine tg29 (pc := 171) rfl dX3_together_171 ?_
            refine wq_lmul (pc := 174) dX3_together_174 ?_
            refine wq_goto (pc := 175) (tgt := 179) dX3_together_175 rfl ?_
            refine tw_last' (pc := 179) ok dX3_together_179 V (fun s14 V => ?_)
            refine wq_iinc (L' := [some (.ref o), some (.int x1), some (.int x2), some (.int x3), some (.int x4), none, some (.int x6), some (.long x7), none, some (.int (x9 + (1 : Int32))), some (.int (0 : Int32)), none, none]) (pc := 180) dX3_together_180 rfl (by rw [csti1]) (Nat.le_of_ble_eq_true rfl) rfl ?_
            refine wq_goto (pc := 183) (tgt := 102) dX3_together_183 rfl ?_
            exact wq_T.less V ⟨rfl, ⟨rfl, ⟨rfl, ⟨rfl, ⟨rfl, ⟨rfl, ⟨rfl, ⟨rfl, trivial⟩⟩⟩⟩⟩⟩⟩⟩
        · have V := V.2 c
          refine wq_iconst (pc := 141) dX3_together_141 csti1 ?_
          refine wq_goto (pc := 142) (tgt := 146) dX3_together_142 rfl ?_
          refine wq_istore (L' := [some (.ref o), some (.int x1), some (.int x2), some (.int x3), some (.int x4), none, some (.int x6), some (.long x7), none, some (.int x9), some (.int (1 : Int32)), none, none]) (pc := 146) dX3_together_146 (Nat.le_of_ble_eq_true rfl) rfl ?_
          refine wq_aload_n (pc := 148) dX3_together_148 rfl rfl ?_
          refine tg27 (pc := 149) rfl dX3_together_149 ?_
          refine wq_aload_n (pc := 152) dX3_together_152 rfl rfl ?_
          refine tg30 (pc := 153) rfl dX3_together_153 ?_
          refine wq_iconst (pc := 156) dX3_together_156 csti1 ?_
          refine wq_iadd (pc := 157) dX3_together_157 ?_
          refine wq_iload (pc := 158) dX3_together_158 rfl ?_
          refine tcq2002 (pc := 160) (As := [.int ((s1.1 30) + (1 : Int32)), .int x9]) (st := [.ref (ad 27)]) rfl dX3_together_160 rfl (Nat.le_of_ble_eq_true rfl) V (tw_ki (fun y16 s15 V => ?_))
          refine wq_iload (pc := 163) dX3_together_163 rfl ?_
          refine wq_if_eq (pc := 165) (tgt := 178) dX3_together_165 rfl (fun c => ?_) (fun c => ?_)
          · have V := V.1 c
            refine wq_lconst (pc := 178) dX3_together_178 cstl0 ?_
            refine tw_last' (pc := 179) ok dX3_together_179 V (fun s17 V => ?_)
            refine wq_iinc (L' := [some (.ref o), some (.int x1), some (.int x2), some (.int x3), some (.int x4), none, some (.int x6), some (.long x7), none, some (.int (x9 + (1 : Int32))), some (.int (1 : Int32)), none, none]) (pc := 180) dX3_together_180 rfl (by rw [csti1]) (Nat.le_of_ble_eq_true rfl) rfl ?_
            refine wq_goto (pc := 183) (tgt := 102) dX3_together_183 rfl ?_
            exact wq_T.less V ⟨rfl, ⟨rfl, ⟨rfl, ⟨rfl, ⟨rfl, ⟨rfl, ⟨rfl, ⟨rfl, trivial⟩⟩⟩⟩⟩⟩⟩⟩
          · have V := V.2 c
            refine wq_lload (pc := 168) dX3_together_168 rfl ?_
            refine wq_aload_n (pc := 170) dX3_together_170 rfl rfl ?_
            refine tg29 (pc := 171) rfl dX3_together_171 ?_
            refine wq_lmul (pc := 174) dX3_together_174 ?_
            refine wq_goto (pc := 175) (tgt := 179) dX3_together_175 rfl ?_
            refine tw_last' (pc := 179) ok dX3_together_179 V (fun s18 V => ?_)
            refine wq_iinc (L' := [some (.ref o), some (.int x1), some (.int x2), some (.int x3), some (.int x4), none, some (.int x6), some (.long x7), none, some (.int (x9 + (1 : Int32))), some (.int (1 : Int32)), none, none]) (pc := 180) dX3_together_180 rfl (by rw [csti1]) (Nat.le_of_ble_eq_true rfl) rfl ?_
            refine wq_goto (pc := 183) (tgt := 102) dX3_together_183 rfl ?_
            exact wq_T.less V ⟨rfl, ⟨rfl, ⟨rfl, ⟨rfl, ⟨rfl, ⟨rfl, ⟨rfl, ⟨rfl, trivial⟩⟩⟩⟩⟩⟩⟩⟩
theorem vX3_together_189 {G : wq_G} {l : Launch} {o : Nat} {ad : Nat → Nat} {h : wq_H} {d : Nat} {K : Int32 → tw_S → Prop} (ok : tw_ok G o ad)  {x1 : Int32} {x2 : Int32} {x3 : Int32} {x4 : Int32} {x6 : Int32} {x7 : Int64} {x9 : Int32} {s : tw_S} (V : ((s.1 30) ≤ x9 → tw_cv G l o ad h d mX3_goesUp [.ref o, .int ((s.1 30) + (1 : Int32))] s (fun s1 => tw_ci G l o ad h d mX3_cell [.int ((s1.1 30) + (1 : Int32)), .int ((s1.1 31) - (1 : Int32))] s1 (fun y3 s2 => tw_ldl s2 y3 (fun y4 => tw_ld s2 15 (49 : Int32) (fun y5 => tw_ci G l o ad h d mX3_lowest [.long ((-x7) * y4), .long (s2.2.2.2 * y5.toInt64), .int x6] s2 (fun y7 s6 => K y7 s6)))))) ∧ (¬ (s.1 30) ≤ x9 → tw_ld s 28 x9 (fun y8 => tw_ci G l o ad h d mX3_hiddenMany [.ref o] s (fun y10 s9 => (y10 ≤ y8 → tw_T G l o ad h d mX3_together (tw_qi G o ad h K) 247 [some (.ref o), some (.int x1), some (.int x2), some (.int x3), some (.int x4), none, some (.int x6), some (.long x7), none, some (.int x9), none, some (.int (0 : Int32)), some (.int (0 : Int32))] [] s9) ∧ (¬ y10 ≤ y8 → (¬ ((y8 >>> (x1 &&& 31)) &&& (1 : Int32)) = x2 → tw_T G l o ad h d mX3_together (tw_qi G o ad h K) 247 [some (.ref o), some (.int x1), some (.int x2), some (.int x3), some (.int x4), none, some (.int x6), some (.long x7), none, some (.int x9), none, some (.int (0 : Int32)), some (.int (0 : Int32))] [] s9) ∧ (((y8 >>> (x1 &&& 31)) &&& (1 : Int32)) = x2 → (¬ ((y8 >>> (x3 &&& 31)) &&& (1 : Int32)) = x4 → tw_T G l o ad h d mX3_together (tw_qi G o ad h K) 247 [some (.ref o), some (.int x1), some (.int x2), some (.int x3), some (.int x4), none, some (.int x6), some (.long x7), none, some (.int x9), none, some (.int (0 : Int32)), some (.int (0 : Int32))] [] s9) ∧ (((y8 >>> (x3 &&& 31)) &&& (1 : Int32)) = x4 → tw_T G l o ad h d mX3_together (tw_qi G o ad h K) 247 [some (.ref o), some (.int x1), some (.int x2), some (.int x3), some (.int x4), none, some (.int x6), some (.long x7), none, some (.int x9), none, some (.int (1 : Int32)), some (.int (0 : Int32))] [] s9))))))) : tw_T G l o ad h d mX3_together (tw_qi G o ad h K) 189 [some (.ref o), some (.int x1), some (.int x2), some (.int x3), some (.int x4), none, some (.int x6), some (.long x7), none, some (.int x9), none, none, none] [] s := by
  refine wq_iload (pc := 189) dX3_together_189 rfl ?_
  refine wq_aload_n (pc := 191) dX3_together_191 rfl rfl ?_
  refine tg30 (pc := 192) rfl dX3_together_192 ?_
  refine wq_icmp_ge (pc := 195) (tgt := 307) dX3_together_195 rfl (fun c => ?_) (fun c => ?_)
  · have V := V.1 c
    refine wq_aload_n (pc := 307) dX3_together_307 rfl rfl ?_
    refine wq_aload_n (pc := 308) dX3_together_308 rfl rfl ?_
    refine tg30 (pc := 309) rfl dX3_together_309 ?_
    refine wq_iconst (pc := 312) dX3_together_312 csti1 ?_
    refine wq_iadd (pc := 313) dX3_together_313 ?_
    refine tcq2010 (pc := 314) (As := [.int ((s.1 30) + (1 : Int32))]) (st := []) rfl dX3_together_314 rfl (Nat.le_of_ble_eq_true rfl) V (tw_kv (fun s1 V => ?_))
    refine wq_lload (pc := 317) dX3_together_317 rfl ?_
    refine wq_lneg (pc := 319) dX3_together_319 ?_
    refine wq_aload_n (pc := 320) dX3_together_320 rfl rfl ?_
    refine tg27 (pc := 321) rfl dX3_together_321 ?_
    refine wq_aload_n (pc := 324) dX3_together_324 rfl rfl ?_
    refine tg30 (pc := 325) rfl dX3_together_325 ?_
    refine wq_iconst (pc := 328) dX3_together_328 csti1 ?_
    refine wq_iadd (pc := 329) dX3_together_329 ?_
    refine wq_aload_n (pc := 330) dX3_together_330 rfl rfl ?_
    refine tg31 (pc := 331) rfl dX3_together_331 ?_
    refine wq_iconst (pc := 334) dX3_together_334 csti1 ?_
    refine wq_isub (pc := 335) dX3_together_335 ?_
    refine tcq2002 (pc := 336) (As := [.int ((s1.1 30) + (1 : Int32)), .int ((s1.1 31) - (1 : Int32))]) (st := [.ref (ad 27), .long (-x7)]) rfl dX3_together_336 rfl (Nat.le_of_ble_eq_true rfl) V (tw_ki (fun y3 s2 V => ?_))
    refine tw_lald' (pc := 339) ok dX3_together_339 V (fun y4 V => ?_)
    refine wq_lmul (pc := 340) dX3_together_340 ?_
    refine wq_lstore (L' := [some (.ref o), some (.int x1), some (.int x2), some (.int x3), some (.int x4), none, some (.int x6), some (.long x7), none, some (.long ((-x7) * y4)), none, none, none]) (pc := 341) dX3_together_341 (Nat.le_of_ble_eq_true rfl) rfl ?_
    refine wq_lload (pc := 343) dX3_together_343 rfl ?_
    refine wq_aload_n (pc := 345) dX3_together_345 rfl rfl ?_
    refine tg29 (pc := 346) rfl dX3_together_346 ?_
    refine wq_aload_n (pc := 349) dX3_together_349 rfl rfl ?_
    refine tg15 (pc := 350) rfl dX3_together_350 ?_
    refine wq_bipush (pc := 353) dX3_together_353 cstb49 ?_
    refine tw_iald' (pc := 355) ok mia15 dX3_together_355 V (fun y5 V => ?_)
    refine wq_i2l (pc := 356) dX3_together_356 ?_
    refine wq_lmul (pc := 357) dX3_together_357 ?_
    refine wq_iload (pc := 358) dX3_together_358 rfl ?_
    refine tcq2022 (pc := 360) (As := [.long ((-x7) * y4), .long (s2.2.2.2 * y5.toInt64), .int x6]) (st := []) rfl dX3_together_360 rfl (Nat.le_of_ble_eq_true rfl) V (tw_ki (fun y7 s6 V => ?_))
    refine wq_iret (pc := 363) dX3_together_363 rfl ⟨_, _, rfl, rfl, V⟩
  · have V := V.2 c
    refine wq_aload_n (pc := 198) dX3_together_198 rfl rfl ?_
    refine tg28 (pc := 199) rfl dX3_together_199 ?_
    refine wq_iload (pc := 202) dX3_together_202 rfl ?_
    refine tw_iald' (pc := 204) ok mia28 dX3_together_204 V (fun y8 V => ?_)
    refine wq_istore (L' := [some (.ref o), some (.int x1), some (.int x2), some (.int x3), some (.int x4), none, some (.int x6), some (.long x7), none, some (.int x9), some (.int y8), none, none]) (pc := 205) dX3_together_205 (Nat.le_of_ble_eq_true rfl) rfl ?_
    refine wq_iload (pc := 207) dX3_together_207 rfl ?_
    refine wq_aload_n (pc := 209) dX3_together_209 rfl rfl ?_
    refine tcq1995 (pc := 210) (As := []) (st := [.int y8]) rfl dX3_together_210 rfl (Nat.le_of_ble_eq_true rfl) V (tw_ki (fun y10 s9 V => ?_))
    refine wq_icmp_ge (pc := 213) (tgt := 241) dX3_together_213 rfl (fun c => ?_) (fun c => ?_)
    · have V := V.1 c
      refine wq_iconst (pc := 241) dX3_together_241 csti0 ?_
      refine wq_istore (L' := [some (.ref o), some (.int x1), some (.int x2), some (.int x3), some (.int x4), none, some (.int x6), some (.long x7), none, some (.int x9), some (.int y8), some (.int (0 : Int32)), none]) (pc := 242) dX3_together_242 (Nat.le_of_ble_eq_true rfl) rfl ?_
      refine wq_iconst (pc := 244) dX3_together_244 csti0 ?_
      refine wq_istore (L' := [some (.ref o), some (.int x1), some (.int x2), some (.int x3), some (.int x4), none, some (.int x6), some (.long x7), none, some (.int x9), some (.int y8), some (.int (0 : Int32)), some (.int (0 : Int32))]) (pc := 245) dX3_together_245 (Nat.le_of_ble_eq_true rfl) rfl ?_
      exact wq_T.less V ⟨rfl, ⟨rfl, ⟨rfl, ⟨rfl, ⟨rfl, ⟨rfl, ⟨rfl, ⟨rfl, ⟨rfl, ⟨rfl, trivial⟩⟩⟩⟩⟩⟩⟩⟩⟩⟩
    · have V := V.2 c
      refine wq_iload (pc := 216) dX3_together_216 rfl ?_
      refine wq_iload_n (pc := 218) dX3_together_218 rfl rfl ?_
      refine wq_ishr (pc := 219) dX3_together_219 ?_
      refine wq_iconst (pc := 220) dX3_together_220 csti1 ?_
      refine wq_iand (pc := 221) dX3_together_221 ?_
      refine wq_iload_n (pc := 222) dX3_together_222 rfl rfl ?_
      refine wq_icmp_ne (pc := 223) (tgt := 241) dX3_together_223 rfl (fun c => ?_) (fun c => ?_)
      · have V := V.1 c
        refine wq_iconst (pc := 241) dX3_together_241 csti0 ?_
        refine wq_istore (L' := [some (.ref o), some (.int x1), some (.int x2), some (.int x3), some (.int x4), none, some (.int x6), some (.long x7), none, some (.int x9), some (.int y8), some (.int (0 : Int32)), none]) (pc := 242) dX3_together_242 (Nat.le_of_ble_eq_true rfl) rfl ?_
        refine wq_iconst (pc := 244) dX3_together_244 csti0 ?_
        refine wq_istore (L' := [some (.ref o), some (.int x1), some (.int x2), some (.int x3), some (.int x4), none, some (.int x6), some (.long x7), none, some (.int x9), some (.int y8), some (.int (0 : Int32)), some (.int (0 : Int32))]) (pc := 245) dX3_together_245 (Nat.le_of_ble_eq_true rfl) rfl ?_
        exact wq_T.less V ⟨rfl, ⟨rfl, ⟨rfl, ⟨rfl, ⟨rfl, ⟨rfl, ⟨rfl, ⟨rfl, ⟨rfl, ⟨rfl, trivial⟩⟩⟩⟩⟩⟩⟩⟩⟩⟩
      · have V := V.2 c
        refine wq_iload (pc := 226) dX3_together_226 rfl ?_
        refine wq_iload_n (pc := 228) dX3_together_228 rfl rfl ?_
        refine wq_ishr (pc := 229) dX3_together_229 ?_
        refine wq_iconst (pc := 230) dX3_together_230 csti1 ?_
        refine wq_iand (pc := 231) dX3_together_231 ?_
        refine wq_iload (pc := 232) dX3_together_232 rfl ?_
        refine wq_icmp_ne (pc := 234) (tgt := 241) dX3_together_234 rfl (fun c => ?_) (fun c => ?_)
        · have V := V.1 c
          refine wq_iconst (pc := 241) dX3_together_241 csti0 ?_
          refine wq_istore (L' := [some (.ref o), some (.int x1), some (.int x2), some (.int x3), some (.int x4), none, some (.int x6), some (.long x7), none, some (.int x9), some (.int y8), some (.int (0 : Int32)), none]) (pc := 242) dX3_together_242 (Nat.le_of_ble_eq_true rfl) rfl ?_
          refine wq_iconst (pc := 244) dX3_together_244 csti0 ?_
          refine wq_istore (L' := [some (.ref o), some (.int x1), some (.int x2), some (.int x3), some (.int x4), none, some (.int x6), some (.long x7), none, some (.int x9), some (.int y8), some (.int (0 : Int32)), some (.int (0 : Int32))]) (pc := 245) dX3_together_245 (Nat.le_of_ble_eq_true rfl) rfl ?_
          exact wq_T.less V ⟨rfl, ⟨rfl, ⟨rfl, ⟨rfl, ⟨rfl, ⟨rfl, ⟨rfl, ⟨rfl, ⟨rfl, ⟨rfl, trivial⟩⟩⟩⟩⟩⟩⟩⟩⟩⟩
        · have V := V.2 c
          refine wq_iconst (pc := 237) dX3_together_237 csti1 ?_
          refine wq_goto (pc := 238) (tgt := 242) dX3_together_238 rfl ?_
          refine wq_istore (L' := [some (.ref o), some (.int x1), some (.int x2), some (.int x3), some (.int x4), none, some (.int x6), some (.long x7), none, some (.int x9), some (.int y8), some (.int (1 : Int32)), none]) (pc := 242) dX3_together_242 (Nat.le_of_ble_eq_true rfl) rfl ?_
          refine wq_iconst (pc := 244) dX3_together_244 csti0 ?_
          refine wq_istore (L' := [some (.ref o), some (.int x1), some (.int x2), some (.int x3), some (.int x4), none, some (.int x6), some (.long x7), none, some (.int x9), some (.int y8), some (.int (1 : Int32)), some (.int (0 : Int32))]) (pc := 245) dX3_together_245 (Nat.le_of_ble_eq_true rfl) rfl ?_
          exact wq_T.less V ⟨rfl, ⟨rfl, ⟨rfl, ⟨rfl, ⟨rfl, ⟨rfl, ⟨rfl, ⟨rfl, ⟨rfl, ⟨rfl, trivial⟩⟩⟩⟩⟩⟩⟩⟩⟩⟩
theorem vX3_together_247 {G : wq_G} {l : Launch} {o : Nat} {ad : Nat → Nat} {h : wq_H} {d : Nat} {K : Int32 → tw_S → Prop} (ok : tw_ok G o ad)  {x1 : Int32} {x2 : Int32} {x3 : Int32} {x4 : Int32} {x6 : Int32} {x7 : Int64} {x9 : Int32} {x11 : Int32} {x12 : Int32} {s : tw_S} (V : ((s.1 31) ≤ x12 → tw_T G l o ad h d mX3_together (tw_qi G o ad h K) 189 [some (.ref o), some (.int x1), some (.int x2), some (.int x3), some (.int x4), none, some (.int x6), some (.long x7), none, some (.int (x9 + (1 : Int32))), none, none, none] [] s) ∧ (¬ (s.1 31) ≤ x12 → (x11 = 0 → tw_T G l o ad h d mX3_together (tw_qi G o ad h K) 189 [some (.ref o), some (.int x1), some (.int x2), some (.int x3), some (.int x4), none, some (.int x6), some (.long x7), none, some (.int (x9 + (1 : Int32))), none, none, none] [] s) ∧ (¬ x11 = 0 → tw_ci G l o ad h d mX3_cell [.int ((s.1 30) + (1 : Int32)), .int x12] s (fun y2 s1 => tw_ldl s1 y2 (fun y3 => tw_ci G l o ad h d mX3_cell [.int x9, .int x12] s1 (fun y5 s4 => tw_ldl s4 y5 (fun y6 => tw_stl s4 y2 (y3 - (x7 * y6)) (fun s7 => tw_T G l o ad h d mX3_together (tw_qi G o ad h K) 247 [some (.ref o), some (.int x1), some (.int x2), some (.int x3), some (.int x4), none, some (.int x6), some (.long x7), none, some (.int x9), none, some (.int x11), some (.int (x12 + (1 : Int32)))] [] s7)))))))) : tw_T G l o ad h d mX3_together (tw_qi G o ad h K) 247 [some (.ref o), some (.int x1), some (.int x2), some (.int x3), some (.int x4), none, some (.int x6), some (.long x7), none, some (.int x9), none, some (.int x11), some (.int x12)] [] s := by
  refine wq_iload (pc := 247) dX3_together_247 rfl ?_
  refine wq_aload_n (pc := 249) dX3_together_249 rfl rfl ?_
  refine tg31 (pc := 250) rfl dX3_together_250 ?_
  refine wq_icmp_ge (pc := 253) (tgt := 301) dX3_together_253 rfl (fun c => ?_) (fun c => ?_)
  · have V := V.1 c
    refine wq_iinc (L' := [some (.ref o), some (.int x1), some (.int x2), some (.int x3), some (.int x4), none, some (.int x6), some (.long x7), none, some (.int (x9 + (1 : Int32))), none, some (.int x11), some (.int x12)]) (pc := 301) dX3_together_301 rfl (by rw [csti1]) (Nat.le_of_ble_eq_true rfl) rfl ?_
    refine wq_goto (pc := 304) (tgt := 189) dX3_together_304 rfl ?_
    exact wq_T.less V ⟨rfl, ⟨rfl, ⟨rfl, ⟨rfl, ⟨rfl, ⟨rfl, ⟨rfl, ⟨rfl, trivial⟩⟩⟩⟩⟩⟩⟩⟩
  · have V := V.2 c
    refine wq_iload (pc := 256) dX3_together_256 rfl ?_
    refine wq_if_eq (pc := 258) (tgt := 301) dX3_together_258 rfl (fun c => ?_) (fun c => ?_)
    · have V := V.1 c
      refine wq_iinc (L' := [some (.ref o), some (.int x1), some (.int x2), some (.int x3), some (.int x4), none, some (.int x6), some (.long x7), none, some (.int (x9 + (1 : Int32))), none, some (.int x11), some (.int x12)]) (pc := 301) dX3_together_301 rfl (by rw [csti1]) (Nat.le_of_ble_eq_true rfl) rfl ?_
      refine wq_goto (pc := 304) (tgt := 189) dX3_together_304 rfl ?_
      exact wq_T.less V ⟨rfl, ⟨rfl, ⟨rfl, ⟨rfl, ⟨rfl, ⟨rfl, ⟨rfl, ⟨rfl, trivial⟩⟩⟩⟩⟩⟩⟩⟩
    · have V := V.2 c
      refine wq_aload_n (pc := 261) dX3_together_261 rfl rfl ?_
      refine tg27 (pc := 262) rfl dX3_together_262 ?_
      refine wq_aload_n (pc := 265) dX3_together_265 rfl rfl ?_
      refine tg30 (pc := 266) rfl dX3_together_266 ?_
      refine wq_iconst (pc := 269) dX3_together_269 csti1 ?_
      refine wq_iadd (pc := 270) dX3_together_270 ?_
      refine wq_iload (pc := 271) dX3_together_271 rfl ?_
      refine tcq2002 (pc := 273) (As := [.int ((s.1 30) + (1 : Int32)), .int x12]) (st := [.ref (ad 27)]) rfl dX3_together_273 rfl (Nat.le_of_ble_eq_true rfl) V (tw_ki (fun y2 s1 V => ?_))
      refine wq_dup2 (pc := 276) dX3_together_276 rfl rfl ?_
      refine tw_lald' (pc := 277) ok dX3_together_277 V (fun y3 V => ?_)
      refine wq_lload (pc := 278) dX3_together_278 rfl ?_
      refine wq_aload_n (pc := 280) dX3_together_280 rfl rfl ?_
      refine tg27 (pc := 281) rfl dX3_together_281 ?_
      refine wq_iload (pc := 284) dX3_together_284 rfl ?_
      refine wq_iload (pc := 286) dX3_together_286 rfl ?_
      refine tcq2002 (pc := 288) (As := [.int x9, .int x12]) (st := [.ref (ad 27), .long x7, .long y3, .int y2, .ref (ad 27)]) rfl dX3_together_288 rfl (Nat.le_of_ble_eq_true rfl) V (tw_ki (fun y5 s4 V => ?_))
      refine tw_lald' (pc := 291) ok dX3_together_291 V (fun y6 V => ?_)
      refine wq_lmul (pc := 292) dX3_together_292 ?_
      refine wq_lsub (pc := 293) dX3_together_293 ?_
      refine tw_last' (pc := 294) ok dX3_together_294 V (fun s7 V => ?_)
      refine wq_iinc (L' := [some (.ref o), some (.int x1), some (.int x2), some (.int x3), some (.int x4), none, some (.int x6), some (.long x7), none, some (.int x9), none, some (.int x11), some (.int (x12 + (1 : Int32)))]) (pc := 295) dX3_together_295 rfl (by rw [csti1]) (Nat.le_of_ble_eq_true rfl) rfl ?_
      refine wq_goto (pc := 298) (tgt := 247) dX3_together_298 rfl ?_
      exact V
theorem vX3_isLook_0 {G : wq_G} {l : Launch} {o : Nat} {ad : Nat → Nat} {h : wq_H} {d : Nat} {K : Int32 → tw_S → Prop} (ok : tw_ok G o ad)  {x1 : Int32} {s : tw_S} (V : ((s.1 14) = 0 → K (0 : Int32) s) ∧ (¬ (s.1 14) = 0 → tw_ld s 15 (50 : Int32) (fun y1 => tw_ci G l o ad h d mX3_within [.int x1, .int (0 : Int32), .int (y1 - (1 : Int32))] s (fun y3 s2 => (y3 = 0 → K (0 : Int32) s2) ∧ (¬ y3 = 0 → K (1 : Int32) s2))))) : tw_T G l o ad h d mX3_isLook (tw_qi G o ad h K) 0 [some (.ref o), some (.int x1)] [] s := by
  refine wq_aload_n (pc := 0) dX3_isLook_0 rfl rfl ?_
  refine tg14 (pc := 1) rfl dX3_isLook_1 ?_
  refine wq_if_eq (pc := 4) (tgt := 28) dX3_isLook_4 rfl (fun c => ?_) (fun c => ?_)
  · have V := V.1 c
    refine wq_iconst (pc := 28) dX3_isLook_28 csti0 ?_
    refine wq_zret (pc := 29) dX3_isLook_29 rfl tw_nb0 ⟨_, _, rfl, rfl, V⟩
  · have V := V.2 c
    refine wq_iload_n (pc := 7) dX3_isLook_7 rfl rfl ?_
    refine wq_iconst (pc := 8) dX3_isLook_8 csti0 ?_
    refine wq_aload_n (pc := 9) dX3_isLook_9 rfl rfl ?_
    refine tg15 (pc := 10) rfl dX3_isLook_10 ?_
    refine wq_bipush (pc := 13) dX3_isLook_13 cstb50 ?_
    refine tw_iald' (pc := 15) ok mia15 dX3_isLook_15 V (fun y1 V => ?_)
    refine wq_iconst (pc := 16) dX3_isLook_16 csti1 ?_
    refine wq_isub (pc := 17) dX3_isLook_17 ?_
    refine tcq1840 (pc := 18) (As := [.int x1, .int (0 : Int32), .int (y1 - (1 : Int32))]) (st := []) rfl dX3_isLook_18 rfl (Nat.le_of_ble_eq_true rfl) V (tw_ki (fun y3 s2 V => ?_))
    refine wq_if_eq (pc := 21) (tgt := 28) dX3_isLook_21 rfl (fun c => ?_) (fun c => ?_)
    · have V := V.1 c
      refine wq_iconst (pc := 28) dX3_isLook_28 csti0 ?_
      refine wq_zret (pc := 29) dX3_isLook_29 rfl tw_nb0 ⟨_, _, rfl, rfl, V⟩
    · have V := V.2 c
      refine wq_iconst (pc := 24) dX3_isLook_24 csti1 ?_
      refine wq_goto (pc := 25) (tgt := 29) dX3_isLook_25 rfl ?_
      refine wq_zret (pc := 29) dX3_isLook_29 rfl tw_nb1 ⟨_, _, rfl, rfl, V⟩
theorem vX3_isBit_0 {G : wq_G} {l : Launch} {o : Nat} {ad : Nat → Nat} {h : wq_H} {d : Nat} {K : Int32 → tw_S → Prop} (ok : tw_ok G o ad)  {x0 : Int32} {s : tw_S} (V : (x0 = 0 → K (1 : Int32) s) ∧ (¬ x0 = 0 → (¬ x0 = (1 : Int32) → K (0 : Int32) s) ∧ (x0 = (1 : Int32) → K (1 : Int32) s))) : tw_T G l o ad h d mX3_isBit (tw_qi G o ad h K) 0 [some (.int x0)] [] s := by
  refine wq_iload_n (pc := 0) dX3_isBit_0 rfl rfl ?_
  refine wq_if_eq (pc := 1) (tgt := 9) dX3_isBit_1 rfl (fun c => ?_) (fun c => ?_)
  · have V := V.1 c
    refine wq_iconst (pc := 9) dX3_isBit_9 csti1 ?_
    refine wq_goto (pc := 10) (tgt := 14) dX3_isBit_10 rfl ?_
    refine wq_zret (pc := 14) dX3_isBit_14 rfl tw_nb1 ⟨_, _, rfl, rfl, V⟩
  · have V := V.2 c
    refine wq_iload_n (pc := 4) dX3_isBit_4 rfl rfl ?_
    refine wq_iconst (pc := 5) dX3_isBit_5 csti1 ?_
    refine wq_icmp_ne (pc := 6) (tgt := 13) dX3_isBit_6 rfl (fun c => ?_) (fun c => ?_)
    · have V := V.1 c
      refine wq_iconst (pc := 13) dX3_isBit_13 csti0 ?_
      refine wq_zret (pc := 14) dX3_isBit_14 rfl tw_nb0 ⟨_, _, rfl, rfl, V⟩
    · have V := V.2 c
      refine wq_iconst (pc := 9) dX3_isBit_9 csti1 ?_
      refine wq_goto (pc := 10) (tgt := 14) dX3_isBit_10 rfl ?_
      refine wq_zret (pc := 14) dX3_isBit_14 rfl tw_nb1 ⟨_, _, rfl, rfl, V⟩
theorem vX3_extend_0 {G : wq_G} {l : Launch} {o : Nat} {ad : Nat → Nat} {h : wq_H} {d : Nat} {K : Int32 → tw_S → Prop} (ok : tw_ok G o ad)  {x1 : Int32} {x2 : Int32} {s : tw_S} (V : tw_cv G l o ad h d mX3_good [.ref o] s (fun s1 => tw_ci G l o ad h d mX3_isOutcome [.ref o, .int x1, .int x2] s1 (fun y3 s2 => (y3 = 0 → tw_ci G l o ad h d mX3_no [.ref o, .int (1 : Int32)] s2 (fun y5 s4 => K y5 s4)) ∧ (¬ y3 = 0 → tw_ci G l o ad h d mX3_doesExtend [.ref o, .int x1, .int x2] s2 (fun y7 s6 => (y7 = 0 → K (0 : Int32) s6) ∧ (¬ y7 = 0 → K (1 : Int32) s6)))))) : tw_T G l o ad h d mX3_extend (tw_qi G o ad h K) 0 [some (.ref o), some (.int x1), some (.int x2)] [] s := by
  refine wq_aload_n (pc := 0) dX3_extend_0 rfl rfl ?_
  refine tcq1836 (pc := 1) (As := []) (st := []) rfl dX3_extend_1 rfl (Nat.le_of_ble_eq_true rfl) V (tw_kv (fun s1 V => ?_))
  refine wq_aload_n (pc := 4) dX3_extend_4 rfl rfl ?_
  refine wq_iload_n (pc := 5) dX3_extend_5 rfl rfl ?_
  refine wq_iload_n (pc := 6) dX3_extend_6 rfl rfl ?_
  refine tcq2043 (pc := 7) (As := [.int x1, .int x2]) (st := []) rfl dX3_extend_7 rfl (Nat.le_of_ble_eq_true rfl) V (tw_ki (fun y3 s2 V => ?_))
  refine wq_if_eq (pc := 10) (tgt := 30) dX3_extend_10 rfl (fun c => ?_) (fun c => ?_)
  · have V := V.1 c
    refine wq_aload_n (pc := 30) dX3_extend_30 rfl rfl ?_
    refine wq_iconst (pc := 31) dX3_extend_31 csti1 ?_
    refine tcq1843 (pc := 32) (As := [.int (1 : Int32)]) (st := []) rfl dX3_extend_32 rfl (Nat.le_of_ble_eq_true rfl) V (tw_ki (fun y5 s4 V => ?_))
    refine wq_iret (pc := 35) dX3_extend_35 rfl ⟨_, _, rfl, rfl, V⟩
  · have V := V.2 c
    refine wq_aload_n (pc := 13) dX3_extend_13 rfl rfl ?_
    refine wq_iload_n (pc := 14) dX3_extend_14 rfl rfl ?_
    refine wq_iload_n (pc := 15) dX3_extend_15 rfl rfl ?_
    refine tcq2051 (pc := 16) (As := [.int x1, .int x2]) (st := []) rfl dX3_extend_16 rfl (Nat.le_of_ble_eq_true rfl) V (tw_ki (fun y7 s6 V => ?_))
    refine wq_if_eq (pc := 19) (tgt := 26) dX3_extend_19 rfl (fun c => ?_) (fun c => ?_)
    · have V := V.1 c
      refine wq_iconst (pc := 26) dX3_extend_26 csti0 ?_
      refine wq_goto (pc := 27) (tgt := 35) dX3_extend_27 rfl ?_
      refine wq_iret (pc := 35) dX3_extend_35 rfl ⟨_, _, rfl, rfl, V⟩
    · have V := V.2 c
      refine wq_iconst (pc := 22) dX3_extend_22 csti1 ?_
      refine wq_goto (pc := 23) (tgt := 35) dX3_extend_23 rfl ?_
      refine wq_iret (pc := 35) dX3_extend_35 rfl ⟨_, _, rfl, rfl, V⟩
theorem vX3_isOutcome_0 {G : wq_G} {l : Launch} {o : Nat} {ad : Nat → Nat} {h : wq_H} {d : Nat} {K : Int32 → tw_S → Prop} (ok : tw_ok G o ad)  {x1 : Int32} {x2 : Int32} {s : tw_S} (V : tw_ci G l o ad h d mX3_isSet [.ref o, .int x1] s (fun y2 s1 => (y2 = 0 → K (0 : Int32) s1) ∧ (¬ y2 = 0 → tw_ci G l o ad h d mX3_outcomes [.ref (ad 15), .int x1] s1 (fun y4 s3 => tw_ci G l o ad h d mX3_within [.int x2, .int (0 : Int32), .int (y4 - (1 : Int32))] s3 (fun y6 s5 => (y6 = 0 → K (0 : Int32) s5) ∧ (¬ y6 = 0 → K (1 : Int32) s5)))))) : tw_T G l o ad h d mX3_isOutcome (tw_qi G o ad h K) 0 [some (.ref o), some (.int x1), some (.int x2)] [] s := by
  refine wq_aload_n (pc := 0) dX3_isOutcome_0 rfl rfl ?_
  refine wq_iload_n (pc := 1) dX3_isOutcome_1 rfl rfl ?_
  refine tcq2047 (pc := 2) (As := [.int x1]) (st := []) rfl dX3_isOutcome_2 rfl (Nat.le_of_ble_eq_true rfl) V (tw_ki (fun y2 s1 V => ?_))
  refine wq_if_eq (pc := 5) (tgt := 30) dX3_isOutcome_5 rfl (fun c => ?_) (fun c => ?_)
  · have V := V.1 c
    refine wq_iconst (pc := 30) dX3_isOutcome_30 csti0 ?_
    refine wq_zret (pc := 31) dX3_isOutcome_31 rfl tw_nb0 ⟨_, _, rfl, rfl, V⟩
  · have V := V.2 c
    refine wq_iload_n (pc := 8) dX3_isOutcome_8 rfl rfl ?_
    refine wq_iconst (pc := 9) dX3_isOutcome_9 csti0 ?_
    refine wq_aload_n (pc := 10) dX3_isOutcome_10 rfl rfl ?_
    refine tg15 (pc := 11) rfl dX3_isOutcome_11 ?_
    refine wq_iload_n (pc := 14) dX3_isOutcome_14 rfl rfl ?_
    refine tcq1999 (pc := 15) (As := [.ref (ad 15), .int x1]) (st := [.int (0 : Int32), .int x2]) rfl dX3_isOutcome_15 rfl (Nat.le_of_ble_eq_true rfl) V (tw_ki (fun y4 s3 V => ?_))
    refine wq_iconst (pc := 18) dX3_isOutcome_18 csti1 ?_
    refine wq_isub (pc := 19) dX3_isOutcome_19 ?_
    refine tcq1840 (pc := 20) (As := [.int x2, .int (0 : Int32), .int (y4 - (1 : Int32))]) (st := []) rfl dX3_isOutcome_20 rfl (Nat.le_of_ble_eq_true rfl) V (tw_ki (fun y6 s5 V => ?_))
    refine wq_if_eq (pc := 23) (tgt := 30) dX3_isOutcome_23 rfl (fun c => ?_) (fun c => ?_)
    · have V := V.1 c
      refine wq_iconst (pc := 30) dX3_isOutcome_30 csti0 ?_
      refine wq_zret (pc := 31) dX3_isOutcome_31 rfl tw_nb0 ⟨_, _, rfl, rfl, V⟩
    · have V := V.2 c
      refine wq_iconst (pc := 26) dX3_isOutcome_26 csti1 ?_
      refine wq_goto (pc := 27) (tgt := 31) dX3_isOutcome_27 rfl ?_
      refine wq_zret (pc := 31) dX3_isOutcome_31 rfl tw_nb1 ⟨_, _, rfl, rfl, V⟩
theorem vX3_isSet_0 {G : wq_G} {l : Launch} {o : Nat} {ad : Nat → Nat} {h : wq_H} {d : Nat} {K : Int32 → tw_S → Prop} (ok : tw_ok G o ad)  {x1 : Int32} {s : tw_S} (V : ((s.1 14) = 0 → K (0 : Int32) s) ∧ (¬ (s.1 14) = 0 → tw_ld s 15 (0 : Int32) (fun y1 => tw_ci G l o ad h d mX3_within [.int x1, .int (0 : Int32), .int (y1 - (1 : Int32))] s (fun y3 s2 => (y3 = 0 → K (0 : Int32) s2) ∧ (¬ y3 = 0 → K (1 : Int32) s2))))) : tw_T G l o ad h d mX3_isSet (tw_qi G o ad h K) 0 [some (.ref o), some (.int x1)] [] s := by
  refine wq_aload_n (pc := 0) dX3_isSet_0 rfl rfl ?_
  refine tg14 (pc := 1) rfl dX3_isSet_1 ?_
  refine wq_if_eq (pc := 4) (tgt := 27) dX3_isSet_4 rfl (fun c => ?_) (fun c => ?_)
  · have V := V.1 c
    refine wq_iconst (pc := 27) dX3_isSet_27 csti0 ?_
    refine wq_zret (pc := 28) dX3_isSet_28 rfl tw_nb0 ⟨_, _, rfl, rfl, V⟩
  · have V := V.2 c
    refine wq_iload_n (pc := 7) dX3_isSet_7 rfl rfl ?_
    refine wq_iconst (pc := 8) dX3_isSet_8 csti0 ?_
    refine wq_aload_n (pc := 9) dX3_isSet_9 rfl rfl ?_
    refine tg15 (pc := 10) rfl dX3_isSet_10 ?_
    refine wq_iconst (pc := 13) dX3_isSet_13 csti0 ?_
    refine tw_iald' (pc := 14) ok mia15 dX3_isSet_14 V (fun y1 V => ?_)
    refine wq_iconst (pc := 15) dX3_isSet_15 csti1 ?_
    refine wq_isub (pc := 16) dX3_isSet_16 ?_
    refine tcq1840 (pc := 17) (As := [.int x1, .int (0 : Int32), .int (y1 - (1 : Int32))]) (st := []) rfl dX3_isSet_17 rfl (Nat.le_of_ble_eq_true rfl) V (tw_ki (fun y3 s2 V => ?_))
    refine wq_if_eq (pc := 20) (tgt := 27) dX3_isSet_20 rfl (fun c => ?_) (fun c => ?_)
    · have V := V.1 c
      refine wq_iconst (pc := 27) dX3_isSet_27 csti0 ?_
      refine wq_zret (pc := 28) dX3_isSet_28 rfl tw_nb0 ⟨_, _, rfl, rfl, V⟩
    · have V := V.2 c
      refine wq_iconst (pc := 23) dX3_isSet_23 csti1 ?_
      refine wq_goto (pc := 24) (tgt := 28) dX3_isSet_24 rfl ?_
      refine wq_zret (pc := 28) dX3_isSet_28 rfl tw_nb1 ⟨_, _, rfl, rfl, V⟩
theorem vX3_doesExtend_0 {G : wq_G} {l : Launch} {o : Nat} {ad : Nat → Nat} {h : wq_H} {d : Nat} {K : Int32 → tw_S → Prop} (ok : tw_ok G o ad)  {x1 : Int32} {x2 : Int32} {s : tw_S} (V : tw_T G l o ad h d mX3_doesExtend (tw_qi G o ad h K) 5 [some (.ref o), some (.int x1), some (.int x2), some (.int (0 : Int32)), some (.int (0 : Int32))] [] s) : tw_T G l o ad h d mX3_doesExtend (tw_qi G o ad h K) 0 [some (.ref o), some (.int x1), some (.int x2), none, none] [] s := by
  refine wq_iconst (pc := 0) dX3_doesExtend_0 csti0 ?_
  refine wq_istore_n (L' := [some (.ref o), some (.int x1), some (.int x2), some (.int (0 : Int32)), none]) (pc := 1) dX3_doesExtend_1 rfl (Nat.le_of_ble_eq_true rfl) rfl ?_
  refine wq_iconst (pc := 2) dX3_doesExtend_2 csti0 ?_
  refine wq_istore (L' := [some (.ref o), some (.int x1), some (.int x2), some (.int (0 : Int32)), some (.int (0 : Int32))]) (pc := 3) dX3_doesExtend_3 (Nat.le_of_ble_eq_true rfl) rfl ?_
  exact V
theorem vX3_doesExtend_5 {G : wq_G} {l : Launch} {o : Nat} {ad : Nat → Nat} {h : wq_H} {d : Nat} {K : Int32 → tw_S → Prop} (ok : tw_ok G o ad)  {x1 : Int32} {x2 : Int32} {x3 : Int32} {x4 : Int32} {s : tw_S} (V : tw_ci G l o ad h d mX3_hiddenMany [.ref o] s (fun y2 s1 => (y2 ≤ x4 → (x3 = 0 ∨ x3 = 1) ∧ K x3 s1) ∧ (¬ y2 ≤ x4 → (¬ x3 = 0 → tw_T G l o ad h d mX3_doesExtend (tw_qi G o ad h K) 5 [some (.ref o), some (.int x1), some (.int x2), some (.int (1 : Int32)), some (.int (x4 + (1 : Int32)))] [] s1) ∧ (x3 = 0 → tw_ci G l o ad h d mX3_fitted [.ref o, .int x1, .int x4] s1 (fun y4 s3 => (¬ y4 = x2 → tw_T G l o ad h d mX3_doesExtend (tw_qi G o ad h K) 5 [some (.ref o), some (.int x1), some (.int x2), some (.int (0 : Int32)), some (.int (x4 + (1 : Int32)))] [] s3) ∧ (y4 = x2 → tw_ci G l o ad h d mX3_fitsAll [.ref o, .int x4, .int x1] s3 (fun y6 s5 => (y6 = 0 → tw_T G l o ad h d mX3_doesExtend (tw_qi G o ad h K) 5 [some (.ref o), some (.int x1), some (.int x2), some (.int (0 : Int32)), some (.int (x4 + (1 : Int32)))] [] s5) ∧ (¬ y6 = 0 → tw_T G l o ad h d mX3_doesExtend (tw_qi G o ad h K) 5 [some (.ref o), some (.int x1), some (.int x2), some (.int (1 : Int32)), some (.int (x4 + (1 : Int32)))] [] s5)))))))) : tw_T G l o ad h d mX3_doesExtend (tw_qi G o ad h K) 5 [some (.ref o), some (.int x1), some (.int x2), some (.int x3), some (.int x4)] [] s := by
  refine wq_iload (pc := 5) dX3_doesExtend_5 rfl ?_
  refine wq_aload_n (pc := 7) dX3_doesExtend_7 rfl rfl ?_
  refine tcq1995 (pc := 8) (As := []) (st := [.int x4]) rfl dX3_doesExtend_8 rfl (Nat.le_of_ble_eq_true rfl) V (tw_ki (fun y2 s1 V => ?_))
  refine wq_icmp_ge (pc := 11) (tgt := 51) dX3_doesExtend_11 rfl (fun c => ?_) (fun c => ?_)
  · have V := V.1 c
    refine wq_iload_n (pc := 51) dX3_doesExtend_51 rfl rfl ?_
    refine wq_zret (pc := 52) dX3_doesExtend_52 rfl (tw_z V.1).1 ⟨_, _, rfl, rfl, V.2⟩
  · have V := V.2 c
    refine wq_iload_n (pc := 14) dX3_doesExtend_14 rfl rfl ?_
    refine wq_if_ne (pc := 15) (tgt := 39) dX3_doesExtend_15 rfl (fun c => ?_) (fun c => ?_)
    · have V := V.1 c
      refine wq_iconst (pc := 39) dX3_doesExtend_39 csti1 ?_
      refine wq_goto (pc := 40) (tgt := 44) dX3_doesExtend_40 rfl ?_
      refine wq_istore_n (L' := [some (.ref o), some (.int x1), some (.int x2), some (.int (1 : Int32)), some (.int x4)]) (pc := 44) dX3_doesExtend_44 rfl (Nat.le_of_ble_eq_true rfl) rfl ?_
      refine wq_iinc (L' := [some (.ref o), some (.int x1), some (.int x2), some (.int (1 : Int32)), some (.int (x4 + (1 : Int32)))]) (pc := 45) dX3_doesExtend_45 rfl (by rw [csti1]) (Nat.le_of_ble_eq_true rfl) rfl ?_
      refine wq_goto (pc := 48) (tgt := 5) dX3_doesExtend_48 rfl ?_
      exact V
    · have V := V.2 c
      refine wq_aload_n (pc := 18) dX3_doesExtend_18 rfl rfl ?_
      refine wq_iload_n (pc := 19) dX3_doesExtend_19 rfl rfl ?_
      refine wq_iload (pc := 20) dX3_doesExtend_20 rfl ?_
      refine tcq2005 (pc := 22) (As := [.int x1, .int x4]) (st := []) rfl dX3_doesExtend_22 rfl (Nat.le_of_ble_eq_true rfl) V (tw_ki (fun y4 s3 V => ?_))
      refine wq_iload_n (pc := 25) dX3_doesExtend_25 rfl rfl ?_
      refine wq_icmp_ne (pc := 26) (tgt := 43) dX3_doesExtend_26 rfl (fun c => ?_) (fun c => ?_)
      · have V := V.1 c
        refine wq_iconst (pc := 43) dX3_doesExtend_43 csti0 ?_
        refine wq_istore_n (L' := [some (.ref o), some (.int x1), some (.int x2), some (.int (0 : Int32)), some (.int x4)]) (pc := 44) dX3_doesExtend_44 rfl (Nat.le_of_ble_eq_true rfl) rfl ?_
        refine wq_iinc (L' := [some (.ref o), some (.int x1), some (.int x2), some (.int (0 : Int32)), some (.int (x4 + (1 : Int32)))]) (pc := 45) dX3_doesExtend_45 rfl (by rw [csti1]) (Nat.le_of_ble_eq_true rfl) rfl ?_
        refine wq_goto (pc := 48) (tgt := 5) dX3_doesExtend_48 rfl ?_
        exact V
      · have V := V.2 c
        refine wq_aload_n (pc := 29) dX3_doesExtend_29 rfl rfl ?_
        refine wq_iload (pc := 30) dX3_doesExtend_30 rfl ?_
        refine wq_iload_n (pc := 32) dX3_doesExtend_32 rfl rfl ?_
        refine tcq2055 (pc := 33) (As := [.int x4, .int x1]) (st := []) rfl dX3_doesExtend_33 rfl (Nat.le_of_ble_eq_true rfl) V (tw_ki (fun y6 s5 V => ?_))
        refine wq_if_eq (pc := 36) (tgt := 43) dX3_doesExtend_36 rfl (fun c => ?_) (fun c => ?_)
        · have V := V.1 c
          refine wq_iconst (pc := 43) dX3_doesExtend_43 csti0 ?_
          refine wq_istore_n (L' := [some (.ref o), some (.int x1), some (.int x2), some (.int (0 : Int32)), some (.int x4)]) (pc := 44) dX3_doesExtend_44 rfl (Nat.le_of_ble_eq_true rfl) rfl ?_
          refine wq_iinc (L' := [some (.ref o), some (.int x1), some (.int x2), some (.int (0 : Int32)), some (.int (x4 + (1 : Int32)))]) (pc := 45) dX3_doesExtend_45 rfl (by rw [csti1]) (Nat.le_of_ble_eq_true rfl) rfl ?_
          refine wq_goto (pc := 48) (tgt := 5) dX3_doesExtend_48 rfl ?_
          exact V
        · have V := V.2 c
          refine wq_iconst (pc := 39) dX3_doesExtend_39 csti1 ?_
          refine wq_goto (pc := 40) (tgt := 44) dX3_doesExtend_40 rfl ?_
          refine wq_istore_n (L' := [some (.ref o), some (.int x1), some (.int x2), some (.int (1 : Int32)), some (.int x4)]) (pc := 44) dX3_doesExtend_44 rfl (Nat.le_of_ble_eq_true rfl) rfl ?_
          refine wq_iinc (L' := [some (.ref o), some (.int x1), some (.int x2), some (.int (1 : Int32)), some (.int (x4 + (1 : Int32)))]) (pc := 45) dX3_doesExtend_45 rfl (by rw [csti1]) (Nat.le_of_ble_eq_true rfl) rfl ?_
          refine wq_goto (pc := 48) (tgt := 5) dX3_doesExtend_48 rfl ?_
          exact V
theorem vX3_fitsAll_0 {G : wq_G} {l : Launch} {o : Nat} {ad : Nat → Nat} {h : wq_H} {d : Nat} {K : Int32 → tw_S → Prop} (ok : tw_ok G o ad)  {x1 : Int32} {x2 : Int32} {s : tw_S} (V : tw_T G l o ad h d mX3_fitsAll (tw_qi G o ad h K) 5 [some (.ref o), some (.int x1), some (.int x2), some (.int (1 : Int32)), some (.int (0 : Int32))] [] s) : tw_T G l o ad h d mX3_fitsAll (tw_qi G o ad h K) 0 [some (.ref o), some (.int x1), some (.int x2), none, none] [] s := by
  refine wq_iconst (pc := 0) dX3_fitsAll_0 csti1 ?_
  refine wq_istore_n (L' := [some (.ref o), some (.int x1), some (.int x2), some (.int (1 : Int32)), none]) (pc := 1) dX3_fitsAll_1 rfl (Nat.le_of_ble_eq_true rfl) rfl ?_
  refine wq_iconst (pc := 2) dX3_fitsAll_2 csti0 ?_
  refine wq_istore (L' := [some (.ref o), some (.int x1), some (.int x2), some (.int (1 : Int32)), some (.int (0 : Int32))]) (pc := 3) dX3_fitsAll_3 (Nat.le_of_ble_eq_true rfl) rfl ?_
  exact V
theorem vX3_fitsAll_5 {G : wq_G} {l : Launch} {o : Nat} {ad : Nat → Nat} {h : wq_H} {d : Nat} {K : Int32 → tw_S → Prop} (ok : tw_ok G o ad)  {x1 : Int32} {x2 : Int32} {x3 : Int32} {x4 : Int32} {s : tw_S} (V : tw_ld s 15 (0 : Int32) (fun y1 => (y1 ≤ x4 → (x3 = 0 ∨ x3 = 1) ∧ K x3 s) ∧ (¬ y1 ≤ x4 → (x3 = 0 → tw_T G l o ad h d mX3_fitsAll (tw_qi G o ad h K) 5 [some (.ref o), some (.int x1), some (.int x2), some (.int (0 : Int32)), some (.int (x4 + (1 : Int32)))] [] s) ∧ (¬ x3 = 0 → (x4 = x2 → tw_T G l o ad h d mX3_fitsAll (tw_qi G o ad h K) 5 [some (.ref o), some (.int x1), some (.int x2), some (.int (1 : Int32)), some (.int (x4 + (1 : Int32)))] [] s) ∧ (¬ x4 = x2 → tw_ci G l o ad h d mX3_fitted [.ref o, .int x4, .int x1] s (fun y3 s2 => tw_ld s2 15 (((17 : Int32) + ((4 : Int32) * x4)) + y3) (fun y4 => (y4 ≤ 0 → tw_T G l o ad h d mX3_fitsAll (tw_qi G o ad h K) 5 [some (.ref o), some (.int x1), some (.int x2), some (.int (0 : Int32)), some (.int (x4 + (1 : Int32)))] [] s2) ∧ (¬ y4 ≤ 0 → tw_T G l o ad h d mX3_fitsAll (tw_qi G o ad h K) 5 [some (.ref o), some (.int x1), some (.int x2), some (.int (1 : Int32)), some (.int (x4 + (1 : Int32)))] [] s2)))))))) : tw_T G l o ad h d mX3_fitsAll (tw_qi G o ad h K) 5 [some (.ref o), some (.int x1), some (.int x2), some (.int x3), some (.int x4)] [] s := by
  refine wq_iload (pc := 5) dX3_fitsAll_5 rfl ?_
  refine wq_aload_n (pc := 7) dX3_fitsAll_7 rfl rfl ?_
  refine tg15 (pc := 8) rfl dX3_fitsAll_8 ?_
  refine wq_iconst (pc := 11) dX3_fitsAll_11 csti0 ?_
  refine tw_iald' (pc := 12) ok mia15 dX3_fitsAll_12 V (fun y1 V => ?_)
  refine wq_icmp_ge (pc := 13) (tgt := 61) dX3_fitsAll_13 rfl (fun c => ?_) (fun c => ?_)
  · have V := V.1 c
    refine wq_iload_n (pc := 61) dX3_fitsAll_61 rfl rfl ?_
    refine wq_zret (pc := 62) dX3_fitsAll_62 rfl (tw_z V.1).1 ⟨_, _, rfl, rfl, V.2⟩
  · have V := V.2 c
    refine wq_iload_n (pc := 16) dX3_fitsAll_16 rfl rfl ?_
    refine wq_if_eq (pc := 17) (tgt := 53) dX3_fitsAll_17 rfl (fun c => ?_) (fun c => ?_)
    · have V := V.1 c
      refine wq_iconst (pc := 53) dX3_fitsAll_53 csti0 ?_
      refine wq_istore_n (L' := [some (.ref o), some (.int x1), some (.int x2), some (.int (0 : Int32)), some (.int x4)]) (pc := 54) dX3_fitsAll_54 rfl (Nat.le_of_ble_eq_true rfl) rfl ?_
      refine wq_iinc (L' := [some (.ref o), some (.int x1), some (.int x2), some (.int (0 : Int32)), some (.int (x4 + (1 : Int32)))]) (pc := 55) dX3_fitsAll_55 rfl (by rw [csti1]) (Nat.le_of_ble_eq_true rfl) rfl ?_
      refine wq_goto (pc := 58) (tgt := 5) dX3_fitsAll_58 rfl ?_
      exact V
    · have V := V.2 c
      refine wq_iload (pc := 20) dX3_fitsAll_20 rfl ?_
      refine wq_iload_n (pc := 22) dX3_fitsAll_22 rfl rfl ?_
      refine wq_icmp_eq (pc := 23) (tgt := 49) dX3_fitsAll_23 rfl (fun c => ?_) (fun c => ?_)
      · have V := V.1 c
        refine wq_iconst (pc := 49) dX3_fitsAll_49 csti1 ?_
        refine wq_goto (pc := 50) (tgt := 54) dX3_fitsAll_50 rfl ?_
        refine wq_istore_n (L' := [some (.ref o), some (.int x1), some (.int x2), some (.int (1 : Int32)), some (.int x4)]) (pc := 54) dX3_fitsAll_54 rfl (Nat.le_of_ble_eq_true rfl) rfl ?_
        refine wq_iinc (L' := [some (.ref o), some (.int x1), some (.int x2), some (.int (1 : Int32)), some (.int (x4 + (1 : Int32)))]) (pc := 55) dX3_fitsAll_55 rfl (by rw [csti1]) (Nat.le_of_ble_eq_true rfl) rfl ?_
        refine wq_goto (pc := 58) (tgt := 5) dX3_fitsAll_58 rfl ?_
        exact V
      · have V := V.2 c
        refine wq_aload_n (pc := 26) dX3_fitsAll_26 rfl rfl ?_
        refine tg15 (pc := 27) rfl dX3_fitsAll_27 ?_
        refine wq_bipush (pc := 30) dX3_fitsAll_30 cstb17 ?_
        refine wq_iconst (pc := 32) dX3_fitsAll_32 csti4 ?_
        refine wq_iload (pc := 33) dX3_fitsAll_33 rfl ?_
        refine wq_imul (pc := 35) dX3_fitsAll_35 ?_
        refine wq_iadd (pc := 36) dX3_fitsAll_36 ?_
        refine wq_aload_n (pc := 37) dX3_fitsAll_37 rfl rfl ?_
        refine wq_iload (pc := 38) dX3_fitsAll_38 rfl ?_
        refine wq_iload_n (pc := 40) dX3_fitsAll_40 rfl rfl ?_
        refine tcq2005 (pc := 41) (As := [.int x4, .int x1]) (st := [.int ((17 : Int32) + ((4 : Int32) * x4)), .ref (ad 15)]) rfl dX3_fitsAll_41 rfl (Nat.le_of_ble_eq_true rfl) V (tw_ki (fun y3 s2 V => ?_))
        refine wq_iadd (pc := 44) dX3_fitsAll_44 ?_
        refine tw_iald' (pc := 45) ok mia15 dX3_fitsAll_45 V (fun y4 V => ?_)
        refine wq_if_le (pc := 46) (tgt := 53) dX3_fitsAll_46 rfl (fun c => ?_) (fun c => ?_)
        · have V := V.1 c
          refine wq_iconst (pc := 53) dX3_fitsAll_53 csti0 ?_
          refine wq_istore_n (L' := [some (.ref o), some (.int x1), some (.int x2), some (.int (0 : Int32)), some (.int x4)]) (pc := 54) dX3_fitsAll_54 rfl (Nat.le_of_ble_eq_true rfl) rfl ?_
          refine wq_iinc (L' := [some (.ref o), some (.int x1), some (.int x2), some (.int (0 : Int32)), some (.int (x4 + (1 : Int32)))]) (pc := 55) dX3_fitsAll_55 rfl (by rw [csti1]) (Nat.le_of_ble_eq_true rfl) rfl ?_
          refine wq_goto (pc := 58) (tgt := 5) dX3_fitsAll_58 rfl ?_
          exact V
        · have V := V.2 c
          refine wq_iconst (pc := 49) dX3_fitsAll_49 csti1 ?_
          refine wq_goto (pc := 50) (tgt := 54) dX3_fitsAll_50 rfl ?_
          refine wq_istore_n (L' := [some (.ref o), some (.int x1), some (.int x2), some (.int (1 : Int32)), some (.int x4)]) (pc := 54) dX3_fitsAll_54 rfl (Nat.le_of_ble_eq_true rfl) rfl ?_
          refine wq_iinc (L' := [some (.ref o), some (.int x1), some (.int x2), some (.int (1 : Int32)), some (.int (x4 + (1 : Int32)))]) (pc := 55) dX3_fitsAll_55 rfl (by rw [csti1]) (Nat.le_of_ble_eq_true rfl) rfl ?_
          refine wq_goto (pc := 58) (tgt := 5) dX3_fitsAll_58 rfl ?_
          exact V
theorem vX3_level_0 {G : wq_G} {l : Launch} {o : Nat} {ad : Nat → Nat} {h : wq_H} {d : Nat} {K : Int32 → tw_S → Prop} (ok : tw_ok G o ad)   {s : tw_S} (V : tw_cv G l o ad h d mX3_good [.ref o] s (fun s1 => (¬ (s1.1 14) = 0 → tw_ci G l o ad h d mX3_isMixed [.ref o] s1 (fun y3 s2 => (y3 = 0 → tw_T G l o ad h d mX3_level (tw_qi G o ad h K) 32 [some (.ref o), some (.int (0 : Int32)), some (.int (0 : Int32)), some (.int (0 : Int32)), none] [] s2) ∧ (¬ y3 = 0 → K (0 : Int32) s2))) ∧ ((s1.1 14) = 0 → tw_ci G l o ad h d mX3_no [.ref o, .int (1 : Int32)] s1 (fun y5 s4 => K y5 s4)))) : tw_T G l o ad h d mX3_level (tw_qi G o ad h K) 0 [some (.ref o), none, none, none, none] [] s := by
  refine wq_aload_n (pc := 0) dX3_level_0 rfl rfl ?_
  refine tcq1836 (pc := 1) (As := []) (st := []) rfl dX3_level_1 rfl (Nat.le_of_ble_eq_true rfl) V (tw_kv (fun s1 V => ?_))
  refine wq_aload_n (pc := 4) dX3_level_4 rfl rfl ?_
  refine tg14 (pc := 5) rfl dX3_level_5 ?_
  refine wq_if_ne (pc := 8) (tgt := 17) dX3_level_8 rfl (fun c => ?_) (fun c => ?_)
  · have V := V.1 c
    refine wq_aload_n (pc := 17) dX3_level_17 rfl rfl ?_
    refine tcq1987 (pc := 18) (As := []) (st := []) rfl dX3_level_18 rfl (Nat.le_of_ble_eq_true rfl) V (tw_ki (fun y3 s2 V => ?_))
    refine wq_if_eq (pc := 21) (tgt := 26) dX3_level_21 rfl (fun c => ?_) (fun c => ?_)
    · have V := V.1 c
      refine wq_iconst (pc := 26) dX3_level_26 csti0 ?_
      refine wq_istore_n (L' := [some (.ref o), some (.int (0 : Int32)), none, none, none]) (pc := 27) dX3_level_27 rfl (Nat.le_of_ble_eq_true rfl) rfl ?_
      refine wq_iconst (pc := 28) dX3_level_28 csti0 ?_
      refine wq_istore_n (L' := [some (.ref o), some (.int (0 : Int32)), some (.int (0 : Int32)), none, none]) (pc := 29) dX3_level_29 rfl (Nat.le_of_ble_eq_true rfl) rfl ?_
      refine wq_iconst (pc := 30) dX3_level_30 csti0 ?_
      refine wq_istore_n (L' := [some (.ref o), some (.int (0 : Int32)), some (.int (0 : Int32)), some (.int (0 : Int32)), none]) (pc := 31) dX3_level_31 rfl (Nat.le_of_ble_eq_true rfl) rfl ?_
      exact V
    · have V := V.2 c
      refine wq_iconst (pc := 24) dX3_level_24 csti0 ?_
      refine wq_iret (pc := 25) dX3_level_25 rfl ⟨_, _, rfl, rfl, V⟩
  · have V := V.2 c
    refine wq_aload_n (pc := 11) dX3_level_11 rfl rfl ?_
    refine wq_iconst (pc := 12) dX3_level_12 csti1 ?_
    refine tcq1843 (pc := 13) (As := [.int (1 : Int32)]) (st := []) rfl dX3_level_13 rfl (Nat.le_of_ble_eq_true rfl) V (tw_ki (fun y5 s4 V => ?_))
    refine wq_iret (pc := 16) dX3_level_16 rfl ⟨_, _, rfl, rfl, V⟩
theorem vX3_level_32 {G : wq_G} {l : Launch} {o : Nat} {ad : Nat → Nat} {h : wq_H} {d : Nat} {K : Int32 → tw_S → Prop} (ok : tw_ok G o ad)  {x1 : Int32} {x2 : Int32} {x3 : Int32} {s : tw_S} (V : tw_ld s 15 (0 : Int32) (fun y1 => (y1 ≤ x3 → (¬ x2 = 0 → (x1 ≤ 0 → K (3 : Int32) s) ∧ (¬ x1 ≤ 0 → K (2 : Int32) s)) ∧ (x2 = 0 → K (1 : Int32) s)) ∧ (¬ y1 ≤ x3 → tw_T G l o ad h d mX3_level (tw_qi G o ad h K) 45 [some (.ref o), some (.int x1), some (.int x2), some (.int x3), some (.int (0 : Int32))] [] s))) : tw_T G l o ad h d mX3_level (tw_qi G o ad h K) 32 [some (.ref o), some (.int x1), some (.int x2), some (.int x3), none] [] s := by
  refine wq_iload_n (pc := 32) dX3_level_32 rfl rfl ?_
  refine wq_aload_n (pc := 33) dX3_level_33 rfl rfl ?_
  refine tg15 (pc := 34) rfl dX3_level_34 ?_
  refine wq_iconst (pc := 37) dX3_level_37 csti0 ?_
  refine tw_iald' (pc := 38) ok mia15 dX3_level_38 V (fun y1 V => ?_)
  refine wq_icmp_ge (pc := 39) (tgt := 109) dX3_level_39 rfl (fun c => ?_) (fun c => ?_)
  · have V := V.1 c
    refine wq_iload_n (pc := 109) dX3_level_109 rfl rfl ?_
    refine wq_if_ne (pc := 110) (tgt := 117) dX3_level_110 rfl (fun c => ?_) (fun c => ?_)
    · have V := V.1 c
      refine wq_iload_n (pc := 117) dX3_level_117 rfl rfl ?_
      refine wq_if_le (pc := 118) (tgt := 125) dX3_level_118 rfl (fun c => ?_) (fun c => ?_)
      · have V := V.1 c
        refine wq_iconst (pc := 125) dX3_level_125 csti3 ?_
        refine wq_iret (pc := 126) dX3_level_126 rfl ⟨_, _, rfl, rfl, V⟩
      · have V := V.2 c
        refine wq_iconst (pc := 121) dX3_level_121 csti2 ?_
        refine wq_goto (pc := 122) (tgt := 126) dX3_level_122 rfl ?_
        refine wq_iret (pc := 126) dX3_level_126 rfl ⟨_, _, rfl, rfl, V⟩
    · have V := V.2 c
      refine wq_iconst (pc := 113) dX3_level_113 csti1 ?_
      refine wq_goto (pc := 114) (tgt := 126) dX3_level_114 rfl ?_
      refine wq_iret (pc := 126) dX3_level_126 rfl ⟨_, _, rfl, rfl, V⟩
  · have V := V.2 c
    refine wq_iconst (pc := 42) dX3_level_42 csti0 ?_
    refine wq_istore (L' := [some (.ref o), some (.int x1), some (.int x2), some (.int x3), some (.int (0 : Int32))]) (pc := 43) dX3_level_43 (Nat.le_of_ble_eq_true rfl) rfl ?_
    exact V
theorem vX3_level_45 {G : wq_G} {l : Launch} {o : Nat} {ad : Nat → Nat} {h : wq_H} {d : Nat} {K : Int32 → tw_S → Prop} (ok : tw_ok G o ad)  {x1 : Int32} {x2 : Int32} {x3 : Int32} {x4 : Int32} {s : tw_S} (V : tw_ci G l o ad h d mX3_outcomes [.ref (ad 15), .int x3] s (fun y2 s1 => (y2 ≤ x4 → tw_T G l o ad h d mX3_level (tw_qi G o ad h K) 32 [some (.ref o), some (.int x1), some (.int x2), some (.int (x3 + (1 : Int32))), none] [] s1) ∧ (¬ y2 ≤ x4 → tw_ld s1 15 (((17 : Int32) + ((4 : Int32) * x3)) + x4) (fun y3 => (¬ y3 = 0 → tw_ci G l o ad h d mX3_doesExtend [.ref o, .int x3, .int x4] s1 (fun y5 s4 => (y5 = 0 → tw_T G l o ad h d mX3_level (tw_qi G o ad h K) 45 [some (.ref o), some (.int x1), some (.int (x2 + (1 : Int32))), some (.int x3), some (.int (x4 + (1 : Int32)))] [] s4) ∧ (¬ y5 = 0 → tw_T G l o ad h d mX3_level (tw_qi G o ad h K) 45 [some (.ref o), some (.int (x1 + (1 : Int32))), some (.int x2), some (.int x3), some (.int (x4 + (1 : Int32)))] [] s4))) ∧ (y3 = 0 → tw_T G l o ad h d mX3_level (tw_qi G o ad h K) 45 [some (.ref o), some (.int x1), some (.int x2), some (.int x3), some (.int (x4 + (1 : Int32)))] [] s1))))) : tw_T G l o ad h d mX3_level (tw_qi G o ad h K) 45 [some (.ref o), some (.int x1), some (.int x2), some (.int x3), some (.int x4)] [] s := by
  refine wq_iload (pc := 45) dX3_level_45 rfl ?_
  refine wq_aload_n (pc := 47) dX3_level_47 rfl rfl ?_
  refine tg15 (pc := 48) rfl dX3_level_48 ?_
  refine wq_iload_n (pc := 51) dX3_level_51 rfl rfl ?_
  refine tcq1999 (pc := 52) (As := [.ref (ad 15), .int x3]) (st := [.int x4]) rfl dX3_level_52 rfl (Nat.le_of_ble_eq_true rfl) V (tw_ki (fun y2 s1 V => ?_))
  refine wq_icmp_ge (pc := 55) (tgt := 103) dX3_level_55 rfl (fun c => ?_) (fun c => ?_)
  · have V := V.1 c
    refine wq_iinc (L' := [some (.ref o), some (.int x1), some (.int x2), some (.int (x3 + (1 : Int32))), some (.int x4)]) (pc := 103) dX3_level_103 rfl (by rw [csti1]) (Nat.le_of_ble_eq_true rfl) rfl ?_
    refine wq_goto (pc := 106) (tgt := 32) dX3_level_106 rfl ?_
    exact wq_T.less V ⟨rfl, ⟨rfl, ⟨rfl, ⟨rfl, trivial⟩⟩⟩⟩
  · have V := V.2 c
    refine wq_aload_n (pc := 58) dX3_level_58 rfl rfl ?_
    refine tg15 (pc := 59) rfl dX3_level_59 ?_
    refine wq_bipush (pc := 62) dX3_level_62 cstb17 ?_
    refine wq_iconst (pc := 64) dX3_level_64 csti4 ?_
    refine wq_iload_n (pc := 65) dX3_level_65 rfl rfl ?_
    refine wq_imul (pc := 66) dX3_level_66 ?_
    refine wq_iadd (pc := 67) dX3_level_67 ?_
    refine wq_iload (pc := 68) dX3_level_68 rfl ?_
    refine wq_iadd (pc := 70) dX3_level_70 ?_
    refine tw_iald' (pc := 71) ok mia15 dX3_level_71 V (fun y3 V => ?_)
    refine wq_if_ne (pc := 72) (tgt := 78) dX3_level_72 rfl (fun c => ?_) (fun c => ?_)
    · have V := V.1 c
      refine wq_aload_n (pc := 78) dX3_level_78 rfl rfl ?_
      refine wq_iload_n (pc := 79) dX3_level_79 rfl rfl ?_
      refine wq_iload (pc := 80) dX3_level_80 rfl ?_
      refine tcq2051 (pc := 82) (As := [.int x3, .int x4]) (st := []) rfl dX3_level_82 rfl (Nat.le_of_ble_eq_true rfl) V (tw_ki (fun y5 s4 V => ?_))
      refine wq_if_eq (pc := 85) (tgt := 94) dX3_level_85 rfl (fun c => ?_) (fun c => ?_)
      · have V := V.1 c
        refine wq_iinc (L' := [some (.ref o), some (.int x1), some (.int (x2 + (1 : Int32))), some (.int x3), some (.int x4)]) (pc := 94) dX3_level_94 rfl (by rw [csti1]) (Nat.le_of_ble_eq_true rfl) rfl ?_
        refine wq_iinc (L' := [some (.ref o), some (.int x1), some (.int (x2 + (1 : Int32))), some (.int x3), some (.int (x4 + (1 : Int32)))]) (pc := 97) dX3_level_97 rfl (by rw [csti1]) (Nat.le_of_ble_eq_true rfl) rfl ?_
        refine wq_goto (pc := 100) (tgt := 45) dX3_level_100 rfl ?_
        exact V
      · have V := V.2 c
        refine wq_iinc (L' := [some (.ref o), some (.int (x1 + (1 : Int32))), some (.int x2), some (.int x3), some (.int x4)]) (pc := 88) dX3_level_88 rfl (by rw [csti1]) (Nat.le_of_ble_eq_true rfl) rfl ?_
        refine wq_goto (pc := 91) (tgt := 97) dX3_level_91 rfl ?_
        refine wq_iinc (L' := [some (.ref o), some (.int (x1 + (1 : Int32))), some (.int x2), some (.int x3), some (.int (x4 + (1 : Int32)))]) (pc := 97) dX3_level_97 rfl (by rw [csti1]) (Nat.le_of_ble_eq_true rfl) rfl ?_
        refine wq_goto (pc := 100) (tgt := 45) dX3_level_100 rfl ?_
        exact V
    · have V := V.2 c
      refine wq_goto (pc := 75) (tgt := 97) dX3_level_75 rfl ?_
      refine wq_iinc (L' := [some (.ref o), some (.int x1), some (.int x2), some (.int x3), some (.int (x4 + (1 : Int32)))]) (pc := 97) dX3_level_97 rfl (by rw [csti1]) (Nat.le_of_ble_eq_true rfl) rfl ?_
      refine wq_goto (pc := 100) (tgt := 45) dX3_level_100 rfl ?_
      exact V
theorem vX3_hidden_0 {G : wq_G} {l : Launch} {o : Nat} {ad : Nat → Nat} {h : wq_H} {d : Nat} {K : Int32 → tw_S → Prop} (ok : tw_ok G o ad)   {s : tw_S} (V : tw_cv G l o ad h d mX3_good [.ref o] s (fun s1 => ((s1.1 14) = 0 → tw_ci G l o ad h d mX3_no [.ref o, .int (1 : Int32)] s1 (fun y3 s2 => K y3 s2)) ∧ (¬ (s1.1 14) = 0 → tw_ci G l o ad h d mX3_fittingAnswer [.ref o, .int (-1 : Int32)] s1 (fun y5 s4 => K (y5 + (1000 : Int32)) s4)))) : tw_T G l o ad h d mX3_hidden (tw_qi G o ad h K) 0 [some (.ref o)] [] s := by
  refine wq_aload_n (pc := 0) dX3_hidden_0 rfl rfl ?_
  refine tcq1836 (pc := 1) (As := []) (st := []) rfl dX3_hidden_1 rfl (Nat.le_of_ble_eq_true rfl) V (tw_kv (fun s1 V => ?_))
  refine wq_aload_n (pc := 4) dX3_hidden_4 rfl rfl ?_
  refine tg14 (pc := 5) rfl dX3_hidden_5 ?_
  refine wq_if_eq (pc := 8) (tgt := 23) dX3_hidden_8 rfl (fun c => ?_) (fun c => ?_)
  · have V := V.1 c
    refine wq_aload_n (pc := 23) dX3_hidden_23 rfl rfl ?_
    refine wq_iconst (pc := 24) dX3_hidden_24 csti1 ?_
    refine tcq1843 (pc := 25) (As := [.int (1 : Int32)]) (st := []) rfl dX3_hidden_25 rfl (Nat.le_of_ble_eq_true rfl) V (tw_ki (fun y3 s2 V => ?_))
    refine wq_iret (pc := 28) dX3_hidden_28 rfl ⟨_, _, rfl, rfl, V⟩
  · have V := V.2 c
    refine wq_aload_n (pc := 11) dX3_hidden_11 rfl rfl ?_
    refine wq_iconst (pc := 12) dX3_hidden_12 cstim1 ?_
    refine tcq2067 (pc := 13) (As := [.int (-1 : Int32)]) (st := []) rfl dX3_hidden_13 rfl (Nat.le_of_ble_eq_true rfl) V (tw_ki (fun y5 s4 V => ?_))
    refine wq_sipush (pc := 16) dX3_hidden_16 csts1000 ?_
    refine wq_iadd (pc := 19) dX3_hidden_19 ?_
    refine wq_goto (pc := 20) (tgt := 28) dX3_hidden_20 rfl ?_
    refine wq_iret (pc := 28) dX3_hidden_28 rfl ⟨_, _, rfl, rfl, V⟩
theorem vX3_fittingAnswer_0 {G : wq_G} {l : Launch} {o : Nat} {ad : Nat → Nat} {h : wq_H} {d : Nat} {K : Int32 → tw_S → Prop} (ok : tw_ok G o ad)  {x1 : Int32} {s : tw_S} (V : tw_T G l o ad h d mX3_fittingAnswer (tw_qi G o ad h K) 4 [some (.ref o), some (.int x1), some (.int (0 : Int32)), some (.int (0 : Int32))] [] s) : tw_T G l o ad h d mX3_fittingAnswer (tw_qi G o ad h K) 0 [some (.ref o), some (.int x1), none, none] [] s := by
  refine wq_iconst (pc := 0) dX3_fittingAnswer_0 csti0 ?_
  refine wq_istore_n (L' := [some (.ref o), some (.int x1), some (.int (0 : Int32)), none]) (pc := 1) dX3_fittingAnswer_1 rfl (Nat.le_of_ble_eq_true rfl) rfl ?_
  refine wq_iconst (pc := 2) dX3_fittingAnswer_2 csti0 ?_
  refine wq_istore_n (L' := [some (.ref o), some (.int x1), some (.int (0 : Int32)), some (.int (0 : Int32))]) (pc := 3) dX3_fittingAnswer_3 rfl (Nat.le_of_ble_eq_true rfl) rfl ?_
  exact V
theorem vX3_fittingAnswer_4 {G : wq_G} {l : Launch} {o : Nat} {ad : Nat → Nat} {h : wq_H} {d : Nat} {K : Int32 → tw_S → Prop} (ok : tw_ok G o ad)  {x1 : Int32} {x2 : Int32} {x3 : Int32} {s : tw_S} (V : tw_ci G l o ad h d mX3_hiddenMany [.ref o] s (fun y2 s1 => (y2 ≤ x3 → K (x2 - (1000 : Int32)) s1) ∧ (¬ y2 ≤ x3 → tw_ci G l o ad h d mX3_fitsAll [.ref o, .int x3, .int (-1 : Int32)] s1 (fun y4 s3 => (¬ y4 = 0 → (¬ x2 = x1 → tw_T G l o ad h d mX3_fittingAnswer (tw_qi G o ad h K) 4 [some (.ref o), some (.int x1), some (.int (x2 + (1 : Int32))), some (.int (x3 + (1 : Int32)))] [] s3) ∧ (x2 = x1 → K x3 s3)) ∧ (y4 = 0 → tw_T G l o ad h d mX3_fittingAnswer (tw_qi G o ad h K) 4 [some (.ref o), some (.int x1), some (.int x2), some (.int (x3 + (1 : Int32)))] [] s3))))) : tw_T G l o ad h d mX3_fittingAnswer (tw_qi G o ad h K) 4 [some (.ref o), some (.int x1), some (.int x2), some (.int x3)] [] s := by
  refine wq_iload_n (pc := 4) dX3_fittingAnswer_4 rfl rfl ?_
  refine wq_aload_n (pc := 5) dX3_fittingAnswer_5 rfl rfl ?_
  refine tcq1995 (pc := 6) (As := []) (st := [.int x3]) rfl dX3_fittingAnswer_6 rfl (Nat.le_of_ble_eq_true rfl) V (tw_ki (fun y2 s1 V => ?_))
  refine wq_icmp_ge (pc := 9) (tgt := 40) dX3_fittingAnswer_9 rfl (fun c => ?_) (fun c => ?_)
  · have V := V.1 c
    refine wq_iload_n (pc := 40) dX3_fittingAnswer_40 rfl rfl ?_
    refine wq_sipush (pc := 41) dX3_fittingAnswer_41 csts1000 ?_
    refine wq_isub (pc := 44) dX3_fittingAnswer_44 ?_
    refine wq_iret (pc := 45) dX3_fittingAnswer_45 rfl ⟨_, _, rfl, rfl, V⟩
  · have V := V.2 c
    refine wq_aload_n (pc := 12) dX3_fittingAnswer_12 rfl rfl ?_
    refine wq_iload_n (pc := 13) dX3_fittingAnswer_13 rfl rfl ?_
    refine wq_iconst (pc := 14) dX3_fittingAnswer_14 cstim1 ?_
    refine tcq2055 (pc := 15) (As := [.int x3, .int (-1 : Int32)]) (st := []) rfl dX3_fittingAnswer_15 rfl (Nat.le_of_ble_eq_true rfl) V (tw_ki (fun y4 s3 V => ?_))
    refine wq_if_ne (pc := 18) (tgt := 24) dX3_fittingAnswer_18 rfl (fun c => ?_) (fun c => ?_)
    · have V := V.1 c
      refine wq_iload_n (pc := 24) dX3_fittingAnswer_24 rfl rfl ?_
      refine wq_iload_n (pc := 25) dX3_fittingAnswer_25 rfl rfl ?_
      refine wq_icmp_ne (pc := 26) (tgt := 31) dX3_fittingAnswer_26 rfl (fun c => ?_) (fun c => ?_)
      · have V := V.1 c
        refine wq_iinc (L' := [some (.ref o), some (.int x1), some (.int (x2 + (1 : Int32))), some (.int x3)]) (pc := 31) dX3_fittingAnswer_31 rfl (by rw [csti1]) (Nat.le_of_ble_eq_true rfl) rfl ?_
        refine wq_iinc (L' := [some (.ref o), some (.int x1), some (.int (x2 + (1 : Int32))), some (.int (x3 + (1 : Int32)))]) (pc := 34) dX3_fittingAnswer_34 rfl (by rw [csti1]) (Nat.le_of_ble_eq_true rfl) rfl ?_
        refine wq_goto (pc := 37) (tgt := 4) dX3_fittingAnswer_37 rfl ?_
        exact V
      · have V := V.2 c
        refine wq_iload_n (pc := 29) dX3_fittingAnswer_29 rfl rfl ?_
        refine wq_iret (pc := 30) dX3_fittingAnswer_30 rfl ⟨_, _, rfl, rfl, V⟩
    · have V := V.2 c
      refine wq_goto (pc := 21) (tgt := 34) dX3_fittingAnswer_21 rfl ?_
      refine wq_iinc (L' := [some (.ref o), some (.int x1), some (.int x2), some (.int (x3 + (1 : Int32)))]) (pc := 34) dX3_fittingAnswer_34 rfl (by rw [csti1]) (Nat.le_of_ble_eq_true rfl) rfl ?_
      refine wq_goto (pc := 37) (tgt := 4) dX3_fittingAnswer_37 rfl ?_
      exact V
theorem vX3_answer_0 {G : wq_G} {l : Launch} {o : Nat} {ad : Nat → Nat} {h : wq_H} {d : Nat} {K : Int32 → tw_S → Prop} (ok : tw_ok G o ad)  {x1 : Int32} {s : tw_S} (V : tw_cv G l o ad h d mX3_good [.ref o] s (fun s1 => ((s1.1 14) = 0 → tw_ci G l o ad h d mX3_no [.ref o, .int (1 : Int32)] s1 (fun y3 s2 => K y3 s2)) ∧ (¬ (s1.1 14) = 0 → (0 ≤ x1 → tw_ci G l o ad h d mX3_fittingAnswer [.ref o, .int x1] s1 (fun y5 s4 => (0 ≤ y5 → K y5 s4) ∧ (¬ 0 ≤ y5 → tw_ci G l o ad h d mX3_no [.ref o, .int (1 : Int32)] s4 (fun y7 s6 => K y7 s6)))) ∧ (¬ 0 ≤ x1 → tw_ci G l o ad h d mX3_no [.ref o, .int (1 : Int32)] s1 (fun y9 s8 => K y9 s8))))) : tw_T G l o ad h d mX3_answer (tw_qi G o ad h K) 0 [some (.ref o), some (.int x1), none] [] s := by
  refine wq_aload_n (pc := 0) dX3_answer_0 rfl rfl ?_
  refine tcq1836 (pc := 1) (As := []) (st := []) rfl dX3_answer_1 rfl (Nat.le_of_ble_eq_true rfl) V (tw_kv (fun s1 V => ?_))
  refine wq_aload_n (pc := 4) dX3_answer_4 rfl rfl ?_
  refine tg14 (pc := 5) rfl dX3_answer_5 ?_
  refine wq_if_eq (pc := 8) (tgt := 15) dX3_answer_8 rfl (fun c => ?_) (fun c => ?_)
  · have V := V.1 c
    refine wq_aload_n (pc := 15) dX3_answer_15 rfl rfl ?_
    refine wq_iconst (pc := 16) dX3_answer_16 csti1 ?_
    refine tcq1843 (pc := 17) (As := [.int (1 : Int32)]) (st := []) rfl dX3_answer_17 rfl (Nat.le_of_ble_eq_true rfl) V (tw_ki (fun y3 s2 V => ?_))
    refine wq_iret (pc := 20) dX3_answer_20 rfl ⟨_, _, rfl, rfl, V⟩
  · have V := V.2 c
    refine wq_iload_n (pc := 11) dX3_answer_11 rfl rfl ?_
    refine wq_if_ge (pc := 12) (tgt := 21) dX3_answer_12 rfl (fun c => ?_) (fun c => ?_)
    · have V := V.1 c
      refine wq_aload_n (pc := 21) dX3_answer_21 rfl rfl ?_
      refine wq_iload_n (pc := 22) dX3_answer_22 rfl rfl ?_
      refine tcq2067 (pc := 23) (As := [.int x1]) (st := []) rfl dX3_answer_23 rfl (Nat.le_of_ble_eq_true rfl) V (tw_ki (fun y5 s4 V => ?_))
      refine wq_istore_n (L' := [some (.ref o), some (.int x1), some (.int y5)]) (pc := 26) dX3_answer_26 rfl (Nat.le_of_ble_eq_true rfl) rfl ?_
      refine wq_iload_n (pc := 27) dX3_answer_27 rfl rfl ?_
      refine wq_if_ge (pc := 28) (tgt := 39) dX3_answer_28 rfl (fun c => ?_) (fun c => ?_)
      · have V := V.1 c
        refine wq_iload_n (pc := 39) dX3_answer_39 rfl rfl ?_
        refine wq_iret (pc := 40) dX3_answer_40 rfl ⟨_, _, rfl, rfl, V⟩
      · have V := V.2 c
        refine wq_aload_n (pc := 31) dX3_answer_31 rfl rfl ?_
        refine wq_iconst (pc := 32) dX3_answer_32 csti1 ?_
        refine tcq1843 (pc := 33) (As := [.int (1 : Int32)]) (st := []) rfl dX3_answer_33 rfl (Nat.le_of_ble_eq_true rfl) V (tw_ki (fun y7 s6 V => ?_))
        refine wq_goto (pc := 36) (tgt := 40) dX3_answer_36 rfl ?_
        refine wq_iret (pc := 40) dX3_answer_40 rfl ⟨_, _, rfl, rfl, V⟩
    · have V := V.2 c
      refine wq_aload_n (pc := 15) dX3_answer_15 rfl rfl ?_
      refine wq_iconst (pc := 16) dX3_answer_16 csti1 ?_
      refine tcq1843 (pc := 17) (As := [.int (1 : Int32)]) (st := []) rfl dX3_answer_17 rfl (Nat.le_of_ble_eq_true rfl) V (tw_ki (fun y9 s8 V => ?_))
      refine wq_iret (pc := 20) dX3_answer_20 rfl ⟨_, _, rfl, rfl, V⟩
theorem vX3_disturbed_0 {G : wq_G} {l : Launch} {o : Nat} {ad : Nat → Nat} {h : wq_H} {d : Nat} {K : Int32 → tw_S → Prop} (ok : tw_ok G o ad)   {s : tw_S} (V : tw_cv G l o ad h d mX3_good [.ref o] s (fun s1 => (¬ (s1.1 14) = 0 → tw_T G l o ad h d mX3_disturbed (tw_qi G o ad h K) 19 [some (.ref o), some (.int (0 : Int32)), none, none, none] [] s1) ∧ ((s1.1 14) = 0 → tw_ci G l o ad h d mX3_no [.ref o, .int (1 : Int32)] s1 (fun y3 s2 => K y3 s2)))) : tw_T G l o ad h d mX3_disturbed (tw_qi G o ad h K) 0 [some (.ref o), none, none, none, none] [] s := by
  refine wq_aload_n (pc := 0) dX3_disturbed_0 rfl rfl ?_
  refine tcq1836 (pc := 1) (As := []) (st := []) rfl dX3_disturbed_1 rfl (Nat.le_of_ble_eq_true rfl) V (tw_kv (fun s1 V => ?_))
  refine wq_aload_n (pc := 4) dX3_disturbed_4 rfl rfl ?_
  refine tg14 (pc := 5) rfl dX3_disturbed_5 ?_
  refine wq_if_ne (pc := 8) (tgt := 17) dX3_disturbed_8 rfl (fun c => ?_) (fun c => ?_)
  · have V := V.1 c
    refine wq_iconst (pc := 17) dX3_disturbed_17 csti0 ?_
    refine wq_istore_n (L' := [some (.ref o), some (.int (0 : Int32)), none, none, none]) (pc := 18) dX3_disturbed_18 rfl (Nat.le_of_ble_eq_true rfl) rfl ?_
    exact V
  · have V := V.2 c
    refine wq_aload_n (pc := 11) dX3_disturbed_11 rfl rfl ?_
    refine wq_iconst (pc := 12) dX3_disturbed_12 csti1 ?_
    refine tcq1843 (pc := 13) (As := [.int (1 : Int32)]) (st := []) rfl dX3_disturbed_13 rfl (Nat.le_of_ble_eq_true rfl) V (tw_ki (fun y3 s2 V => ?_))
    refine wq_iret (pc := 16) dX3_disturbed_16 rfl ⟨_, _, rfl, rfl, V⟩
theorem vX3_disturbed_19 {G : wq_G} {l : Launch} {o : Nat} {ad : Nat → Nat} {h : wq_H} {d : Nat} {K : Int32 → tw_S → Prop} (ok : tw_ok G o ad)  {x1 : Int32} {s : tw_S} (V : tw_ld s 15 (50 : Int32) (fun y1 => (y1 ≤ x1 → K (-2 : Int32) s) ∧ (¬ y1 ≤ x1 → tw_T G l o ad h d mX3_disturbed (tw_qi G o ad h K) 34 [some (.ref o), some (.int x1), some (.int (-1 : Int32)), some (.int (0 : Int32)), none] [] s))) : tw_T G l o ad h d mX3_disturbed (tw_qi G o ad h K) 19 [some (.ref o), some (.int x1), none, none, none] [] s := by
  refine wq_iload_n (pc := 19) dX3_disturbed_19 rfl rfl ?_
  refine wq_aload_n (pc := 20) dX3_disturbed_20 rfl rfl ?_
  refine tg15 (pc := 21) rfl dX3_disturbed_21 ?_
  refine wq_bipush (pc := 24) dX3_disturbed_24 cstb50 ?_
  refine tw_iald' (pc := 26) ok mia15 dX3_disturbed_26 V (fun y1 V => ?_)
  refine wq_icmp_ge (pc := 27) (tgt := 93) dX3_disturbed_27 rfl (fun c => ?_) (fun c => ?_)
  · have V := V.1 c
    refine wq_bipush (pc := 93) dX3_disturbed_93 cstbm2 ?_
    refine wq_iret (pc := 95) dX3_disturbed_95 rfl ⟨_, _, rfl, rfl, V⟩
  · have V := V.2 c
    refine wq_iconst (pc := 30) dX3_disturbed_30 cstim1 ?_
    refine wq_istore_n (L' := [some (.ref o), some (.int x1), some (.int (-1 : Int32)), none, none]) (pc := 31) dX3_disturbed_31 rfl (Nat.le_of_ble_eq_true rfl) rfl ?_
    refine wq_iconst (pc := 32) dX3_disturbed_32 csti0 ?_
    refine wq_istore_n (L' := [some (.ref o), some (.int x1), some (.int (-1 : Int32)), some (.int (0 : Int32)), none]) (pc := 33) dX3_disturbed_33 rfl (Nat.le_of_ble_eq_true rfl) rfl ?_
    exact V
theorem vX3_disturbed_34 {G : wq_G} {l : Launch} {o : Nat} {ad : Nat → Nat} {h : wq_H} {d : Nat} {K : Int32 → tw_S → Prop} (ok : tw_ok G o ad)  {x1 : Int32} {x2 : Int32} {x3 : Int32} {s : tw_S} (V : tw_ld s 15 (0 : Int32) (fun y1 => (y1 ≤ x3 → tw_T G l o ad h d mX3_disturbed (tw_qi G o ad h K) 19 [some (.ref o), some (.int (x1 + (1 : Int32))), none, none, none] [] s) ∧ (¬ y1 ≤ x3 → tw_ci G l o ad h d mX3_onesOf [.ref o, .int x3, .int x1] s (fun y3 s2 => (y3 < 0 → (y3 < 0 → tw_T G l o ad h d mX3_disturbed (tw_qi G o ad h K) 34 [some (.ref o), some (.int x1), some (.int x2), some (.int (x3 + (1 : Int32))), none] [] s2) ∧ (¬ y3 < 0 → tw_T G l o ad h d mX3_disturbed (tw_qi G o ad h K) 34 [some (.ref o), some (.int x1), some (.int y3), some (.int (x3 + (1 : Int32))), none] [] s2)) ∧ (¬ y3 < 0 → (x2 < 0 → (y3 < 0 → tw_T G l o ad h d mX3_disturbed (tw_qi G o ad h K) 34 [some (.ref o), some (.int x1), some (.int x2), some (.int (x3 + (1 : Int32))), none] [] s2) ∧ (¬ y3 < 0 → tw_T G l o ad h d mX3_disturbed (tw_qi G o ad h K) 34 [some (.ref o), some (.int x1), some (.int y3), some (.int (x3 + (1 : Int32))), none] [] s2)) ∧ (¬ x2 < 0 → (y3 = x2 → (y3 < 0 → tw_T G l o ad h d mX3_disturbed (tw_qi G o ad h K) 34 [some (.ref o), some (.int x1), some (.int x2), some (.int (x3 + (1 : Int32))), none] [] s2) ∧ (¬ y3 < 0 → tw_T G l o ad h d mX3_disturbed (tw_qi G o ad h K) 34 [some (.ref o), some (.int x1), some (.int y3), some (.int (x3 + (1 : Int32))), none] [] s2)) ∧ (¬ y3 = x2 → K x1 s2))))))) : tw_T G l o ad h d mX3_disturbed (tw_qi G o ad h K) 34 [some (.ref o), some (.int x1), some (.int x2), some (.int x3), none] [] s := by
  refine wq_iload_n (pc := 34) dX3_disturbed_34 rfl rfl ?_
  refine wq_aload_n (pc := 35) dX3_disturbed_35 rfl rfl ?_
  refine tg15 (pc := 36) rfl dX3_disturbed_36 ?_
  refine wq_iconst (pc := 39) dX3_disturbed_39 csti0 ?_
  refine tw_iald' (pc := 40) ok mia15 dX3_disturbed_40 V (fun y1 V => ?_)
  refine wq_icmp_ge (pc := 41) (tgt := 87) dX3_disturbed_41 rfl (fun c => ?_) (fun c => ?_)
  · have V := V.1 c
    refine wq_iinc (L' := [some (.ref o), some (.int (x1 + (1 : Int32))), some (.int x2), some (.int x3), none]) (pc := 87) dX3_disturbed_87 rfl (by rw [csti1]) (Nat.le_of_ble_eq_true rfl) rfl ?_
    refine wq_goto (pc := 90) (tgt := 19) dX3_disturbed_90 rfl ?_
    exact wq_T.less V ⟨rfl, ⟨rfl, trivial⟩⟩
  · have V := V.2 c
    refine wq_aload_n (pc := 44) dX3_disturbed_44 rfl rfl ?_
    refine wq_iload_n (pc := 45) dX3_disturbed_45 rfl rfl ?_
    refine wq_iload_n (pc := 46) dX3_disturbed_46 rfl rfl ?_
    refine tcq2079 (pc := 47) (As := [.int x3, .int x1]) (st := []) rfl dX3_disturbed_47 rfl (Nat.le_of_ble_eq_true rfl) V (tw_ki (fun y3 s2 V => ?_))
    refine wq_istore (L' := [some (.ref o), some (.int x1), some (.int x2), some (.int x3), some (.int y3)]) (pc := 50) dX3_disturbed_50 (Nat.le_of_ble_eq_true rfl) rfl ?_
    refine wq_iload (pc := 52) dX3_disturbed_52 rfl ?_
    refine wq_if_lt (pc := 54) (tgt := 69) dX3_disturbed_54 rfl (fun c => ?_) (fun c => ?_)
    · have V := V.1 c
      refine wq_iload (pc := 69) dX3_disturbed_69 rfl ?_
      refine wq_if_lt (pc := 71) (tgt := 79) dX3_disturbed_71 rfl (fun c => ?_) (fun c => ?_)
      · have V := V.1 c
        refine wq_iload_n (pc := 79) dX3_disturbed_79 rfl rfl ?_
        refine wq_istore_n (L' := [some (.ref o), some (.int x1), some (.int x2), some (.int x3), some (.int y3)]) (pc := 80) dX3_disturbed_80 rfl (Nat.le_of_ble_eq_true rfl) rfl ?_
        refine wq_iinc (L' := [some (.ref o), some (.int x1), some (.int x2), some (.int (x3 + (1 : Int32))), some (.int y3)]) (pc := 81) dX3_disturbed_81 rfl (by rw [csti1]) (Nat.le_of_ble_eq_true rfl) rfl ?_
        refine wq_goto (pc := 84) (tgt := 34) dX3_disturbed_84 rfl ?_
        exact wq_T.less V ⟨rfl, ⟨rfl, ⟨rfl, ⟨rfl, trivial⟩⟩⟩⟩
      · have V := V.2 c
        refine wq_iload (pc := 74) dX3_disturbed_74 rfl ?_
        refine wq_goto (pc := 76) (tgt := 80) dX3_disturbed_76 rfl ?_
        refine wq_istore_n (L' := [some (.ref o), some (.int x1), some (.int y3), some (.int x3), some (.int y3)]) (pc := 80) dX3_disturbed_80 rfl (Nat.le_of_ble_eq_true rfl) rfl ?_
        refine wq_iinc (L' := [some (.ref o), some (.int x1), some (.int y3), some (.int (x3 + (1 : Int32))), some (.int y3)]) (pc := 81) dX3_disturbed_81 rfl (by rw [csti1]) (Nat.le_of_ble_eq_true rfl) rfl ?_
        refine wq_goto (pc := 84) (tgt := 34) dX3_disturbed_84 rfl ?_
        exact wq_T.less V ⟨rfl, ⟨rfl, ⟨rfl, ⟨rfl, trivial⟩⟩⟩⟩
    · have V := V.2 c
      refine wq_iload_n (pc := 57) dX3_disturbed_57 rfl rfl ?_
      refine wq_if_lt (pc := 58) (tgt := 69) dX3_disturbed_58 rfl (fun c => ?_) (fun c => ?_)
      · have V := V.1 c
        refine wq_iload (pc := 69) dX3_disturbed_69 rfl ?_
        refine wq_if_lt (pc := 71) (tgt := 79) dX3_disturbed_71 rfl (fun c => ?_) (fun c => ?_)
        · have V := V.1 c
          refine wq_iload_n (pc := 79) dX3_disturbed_79 rfl rfl ?_
          refine wq_istore_n (L' := [some (.ref o), some (.int x1), some (.int x2), some (.int x3), some (.int y3)]) (pc := 80) dX3_disturbed_80 rfl (Nat.le_of_ble_eq_true rfl) rfl ?_
          refine wq_iinc (L' := [some (.ref o), some (.int x1), some (.int x2), some (.int (x3 + (1 : Int32))), some (.int y3)]) (pc := 81) dX3_disturbed_81 rfl (by rw [csti1]) (Nat.le_of_ble_eq_true rfl) rfl ?_
          refine wq_goto (pc := 84) (tgt := 34) dX3_disturbed_84 rfl ?_
          exact wq_T.less V ⟨rfl, ⟨rfl, ⟨rfl, ⟨rfl, trivial⟩⟩⟩⟩
        · have V := V.2 c
          refine wq_iload (pc := 74) dX3_disturbed_74 rfl ?_
          refine wq_goto (pc := 76) (tgt := 80) dX3_disturbed_76 rfl ?_
          refine wq_istore_n (L' := [some (.ref o), some (.int x1), some (.int y3), some (.int x3), some (.int y3)]) (pc := 80) dX3_disturbed_80 rfl (Nat.le_of_ble_eq_true rfl) rfl ?_
          refine wq_iinc (L' := [some (.ref o), some (.int x1), some (.int y3), some (.int (x3 + (1 : Int32))), some (.int y3)]) (pc := 81) dX3_disturbed_81 rfl (by rw [csti1]) (Nat.le_of_ble_eq_true rfl) rfl ?_
          refine wq_goto (pc := 84) (tgt := 34) dX3_disturbed_84 rfl ?_
          exact wq_T.less V ⟨rfl, ⟨rfl, ⟨rfl, ⟨rfl, trivial⟩⟩⟩⟩
      · have V := V.2 c
        refine wq_iload (pc := 61) dX3_disturbed_61 rfl ?_
        refine wq_iload_n (pc := 63) dX3_disturbed_63 rfl rfl ?_
        refine wq_icmp_eq (pc := 64) (tgt := 69) dX3_disturbed_64 rfl (fun c => ?_) (fun c => ?_)
        · have V := V.1 c
          refine wq_iload (pc := 69) dX3_disturbed_69 rfl ?_
          refine wq_if_lt (pc := 71) (tgt := 79) dX3_disturbed_71 rfl (fun c => ?_) (fun c => ?_)
          · have V := V.1 c
            refine wq_iload_n (pc := 79) dX3_disturbed_79 rfl rfl ?_
            refine wq_istore_n (L' := [some (.ref o), some (.int x1), some (.int x2), some (.int x3), some (.int y3)]) (pc := 80) dX3_disturbed_80 rfl (Nat.le_of_ble_eq_true rfl) rfl ?_
            refine wq_iinc (L' := [some (.ref o), some (.int x1), some (.int x2), some (.int (x3 + (1 : Int32))), some (.int y3)]) (pc := 81) dX3_disturbed_81 rfl (by rw [csti1]) (Nat.le_of_ble_eq_true rfl) rfl ?_
            refine wq_goto (pc := 84) (tgt := 34) dX3_disturbed_84 rfl ?_
            exact wq_T.less V ⟨rfl, ⟨rfl, ⟨rfl, ⟨rfl, trivial⟩⟩⟩⟩
          · have V := V.2 c
            refine wq_iload (pc := 74) dX3_disturbed_74 rfl ?_
            refine wq_goto (pc := 76) (tgt := 80) dX3_disturbed_76 rfl ?_
            refine wq_istore_n (L' := [some (.ref o), some (.int x1), some (.int y3), some (.int x3), some (.int y3)]) (pc := 80) dX3_disturbed_80 rfl (Nat.le_of_ble_eq_true rfl) rfl ?_
            refine wq_iinc (L' := [some (.ref o), some (.int x1), some (.int y3), some (.int (x3 + (1 : Int32))), some (.int y3)]) (pc := 81) dX3_disturbed_81 rfl (by rw [csti1]) (Nat.le_of_ble_eq_true rfl) rfl ?_
            refine wq_goto (pc := 84) (tgt := 34) dX3_disturbed_84 rfl ?_
            exact wq_T.less V ⟨rfl, ⟨rfl, ⟨rfl, ⟨rfl, trivial⟩⟩⟩⟩
        · have V := V.2 c
          refine wq_iload_n (pc := 67) dX3_disturbed_67 rfl rfl ?_
          refine wq_iret (pc := 68) dX3_disturbed_68 rfl ⟨_, _, rfl, rfl, V⟩
theorem vX3_onesOf_0 {G : wq_G} {l : Launch} {o : Nat} {ad : Nat → Nat} {h : wq_H} {d : Nat} {K : Int32 → tw_S → Prop} (ok : tw_ok G o ad)  {x1 : Int32} {x2 : Int32} {s : tw_S} (V : tw_ld s 15 ((9 : Int32) + x1) (fun y1 => (¬ y1 = (-2 : Int32) → tw_ld s 15 ((1 : Int32) + x1) (fun y2 => (¬ y2 = x2 → tw_ld s 15 ((9 : Int32) + x1) (fun y3 => (¬ y3 = x2 → K (-1 : Int32) s) ∧ (y3 = x2 → tw_ld s 15 (((17 : Int32) + ((4 : Int32) * x1)) + (1 : Int32)) (fun y4 => tw_ld s 15 (((17 : Int32) + ((4 : Int32) * x1)) + (3 : Int32)) (fun y5 => K (y4 + y5) s))))) ∧ (y2 = x2 → tw_ld s 15 (((17 : Int32) + ((4 : Int32) * x1)) + (2 : Int32)) (fun y6 => tw_ld s 15 (((17 : Int32) + ((4 : Int32) * x1)) + (3 : Int32)) (fun y7 => K (y6 + y7) s))))) ∧ (y1 = (-2 : Int32) → tw_ld s 15 ((1 : Int32) + x1) (fun y8 => (¬ y8 = x2 → K (-1 : Int32) s) ∧ (y8 = x2 → tw_ld s 15 (((17 : Int32) + ((4 : Int32) * x1)) + (1 : Int32)) (fun y9 => K y9 s)))))) : tw_T G l o ad h d mX3_onesOf (tw_qi G o ad h K) 0 [some (.ref o), some (.int x1), some (.int x2), none] [] s := by
  refine wq_bipush (pc := 0) dX3_onesOf_0 cstb17 ?_
  refine wq_iconst (pc := 2) dX3_onesOf_2 csti4 ?_
  refine wq_iload_n (pc := 3) dX3_onesOf_3 rfl rfl ?_
  refine wq_imul (pc := 4) dX3_onesOf_4 ?_
  refine wq_iadd (pc := 5) dX3_onesOf_5 ?_
  refine wq_istore_n (L' := [some (.ref o), some (.int x1), some (.int x2), some (.int ((17 : Int32) + ((4 : Int32) * x1)))]) (pc := 6) dX3_onesOf_6 rfl (Nat.le_of_ble_eq_true rfl) rfl ?_
  refine wq_aload_n (pc := 7) dX3_onesOf_7 rfl rfl ?_
  refine tg15 (pc := 8) rfl dX3_onesOf_8 ?_
  refine wq_bipush (pc := 11) dX3_onesOf_11 cstb9 ?_
  refine wq_iload_n (pc := 13) dX3_onesOf_13 rfl rfl ?_
  refine wq_iadd (pc := 14) dX3_onesOf_14 ?_
  refine tw_iald' (pc := 15) ok mia15 dX3_onesOf_15 V (fun y1 V => ?_)
  refine wq_bipush (pc := 16) dX3_onesOf_16 cstbm2 ?_
  refine wq_icmp_ne (pc := 18) (tgt := 46) dX3_onesOf_18 rfl (fun c => ?_) (fun c => ?_)
  · have V := V.1 c
    refine wq_aload_n (pc := 46) dX3_onesOf_46 rfl rfl ?_
    refine tg15 (pc := 47) rfl dX3_onesOf_47 ?_
    refine wq_iconst (pc := 50) dX3_onesOf_50 csti1 ?_
    refine wq_iload_n (pc := 51) dX3_onesOf_51 rfl rfl ?_
    refine wq_iadd (pc := 52) dX3_onesOf_52 ?_
    refine tw_iald' (pc := 53) ok mia15 dX3_onesOf_53 V (fun y2 V => ?_)
    refine wq_iload_n (pc := 54) dX3_onesOf_54 rfl rfl ?_
    refine wq_icmp_ne (pc := 55) (tgt := 78) dX3_onesOf_55 rfl (fun c => ?_) (fun c => ?_)
    · have V := V.1 c
      refine wq_aload_n (pc := 78) dX3_onesOf_78 rfl rfl ?_
      refine tg15 (pc := 79) rfl dX3_onesOf_79 ?_
      refine wq_bipush (pc := 82) dX3_onesOf_82 cstb9 ?_
      refine wq_iload_n (pc := 84) dX3_onesOf_84 rfl rfl ?_
      refine wq_iadd (pc := 85) dX3_onesOf_85 ?_
      refine tw_iald' (pc := 86) ok mia15 dX3_onesOf_86 V (fun y3 V => ?_)
      refine wq_iload_n (pc := 87) dX3_onesOf_87 rfl rfl ?_
      refine wq_icmp_ne (pc := 88) (tgt := 111) dX3_onesOf_88 rfl (fun c => ?_) (fun c => ?_)
      · have V := V.1 c
        refine wq_iconst (pc := 111) dX3_onesOf_111 cstim1 ?_
        refine wq_iret (pc := 112) dX3_onesOf_112 rfl ⟨_, _, rfl, rfl, V⟩
      · have V := V.2 c
        refine wq_aload_n (pc := 91) dX3_onesOf_91 rfl rfl ?_
        refine tg15 (pc := 92) rfl dX3_onesOf_92 ?_
        refine wq_iload_n (pc := 95) dX3_onesOf_95 rfl rfl ?_
        refine wq_iconst (pc := 96) dX3_onesOf_96 csti1 ?_
        refine wq_iadd (pc := 97) dX3_onesOf_97 ?_
        refine tw_iald' (pc := 98) ok mia15 dX3_onesOf_98 V (fun y4 V => ?_)
        refine wq_aload_n (pc := 99) dX3_onesOf_99 rfl rfl ?_
        refine tg15 (pc := 100) rfl dX3_onesOf_100 ?_
        refine wq_iload_n (pc := 103) dX3_onesOf_103 rfl rfl ?_
        refine wq_iconst (pc := 104) dX3_onesOf_104 csti3 ?_
        refine wq_iadd (pc := 105) dX3_onesOf_105 ?_
        refine tw_iald' (pc := 106) ok mia15 dX3_onesOf_106 V (fun y5 V => ?_)
        refine wq_iadd (pc := 107) dX3_onesOf_107 ?_
        refine wq_goto (pc := 108) (tgt := 112) dX3_onesOf_108 rfl ?_
        refine wq_iret (pc := 112) dX3_onesOf_112 rfl ⟨_, _, rfl, rfl, V⟩
    · have V := V.2 c
      refine wq_aload_n (pc := 58) dX3_onesOf_58 rfl rfl ?_
      refine tg15 (pc := 59) rfl dX3_onesOf_59 ?_
      refine wq_iload_n (pc := 62) dX3_onesOf_62 rfl rfl ?_
      refine wq_iconst (pc := 63) dX3_onesOf_63 csti2 ?_
      refine wq_iadd (pc := 64) dX3_onesOf_64 ?_
      refine tw_iald' (pc := 65) ok mia15 dX3_onesOf_65 V (fun y6 V => ?_)
      refine wq_aload_n (pc := 66) dX3_onesOf_66 rfl rfl ?_
      refine tg15 (pc := 67) rfl dX3_onesOf_67 ?_
      refine wq_iload_n (pc := 70) dX3_onesOf_70 rfl rfl ?_
      refine wq_iconst (pc := 71) dX3_onesOf_71 csti3 ?_
      refine wq_iadd (pc := 72) dX3_onesOf_72 ?_
      refine tw_iald' (pc := 73) ok mia15 dX3_onesOf_73 V (fun y7 V => ?_)
      refine wq_iadd (pc := 74) dX3_onesOf_74 ?_
      refine wq_goto (pc := 75) (tgt := 112) dX3_onesOf_75 rfl ?_
      refine wq_iret (pc := 112) dX3_onesOf_112 rfl ⟨_, _, rfl, rfl, V⟩
  · have V := V.2 c
    refine wq_aload_n (pc := 21) dX3_onesOf_21 rfl rfl ?_
    refine tg15 (pc := 22) rfl dX3_onesOf_22 ?_
    refine wq_iconst (pc := 25) dX3_onesOf_25 csti1 ?_
    refine wq_iload_n (pc := 26) dX3_onesOf_26 rfl rfl ?_
    refine wq_iadd (pc := 27) dX3_onesOf_27 ?_
    refine tw_iald' (pc := 28) ok mia15 dX3_onesOf_28 V (fun y8 V => ?_)
    refine wq_iload_n (pc := 29) dX3_onesOf_29 rfl rfl ?_
    refine wq_icmp_ne (pc := 30) (tgt := 44) dX3_onesOf_30 rfl (fun c => ?_) (fun c => ?_)
    · have V := V.1 c
      refine wq_iconst (pc := 44) dX3_onesOf_44 cstim1 ?_
      refine wq_iret (pc := 45) dX3_onesOf_45 rfl ⟨_, _, rfl, rfl, V⟩
    · have V := V.2 c
      refine wq_aload_n (pc := 33) dX3_onesOf_33 rfl rfl ?_
      refine tg15 (pc := 34) rfl dX3_onesOf_34 ?_
      refine wq_iload_n (pc := 37) dX3_onesOf_37 rfl rfl ?_
      refine wq_iconst (pc := 38) dX3_onesOf_38 csti1 ?_
      refine wq_iadd (pc := 39) dX3_onesOf_39 ?_
      refine tw_iald' (pc := 40) ok mia15 dX3_onesOf_40 V (fun y9 V => ?_)
      refine wq_goto (pc := 41) (tgt := 45) dX3_onesOf_41 rfl ?_
      refine wq_iret (pc := 45) dX3_onesOf_45 rfl ⟨_, _, rfl, rfl, V⟩
theorem vX3_same_0 {G : wq_G} {l : Launch} {o : Nat} {ad : Nat → Nat} {h : wq_H} {d : Nat} {K : Int32 → tw_S → Prop} (ok : tw_ok G o ad)  {x1 : Int32} {s : tw_S} (V : tw_cv G l o ad h d mX3_good [.ref o] s (fun s1 => tw_ci G l o ad h d mX3_isSet [.ref o, .int x1] s1 (fun y3 s2 => (y3 = 0 → tw_ci G l o ad h d mX3_less [.ref o, .int (1 : Int32), .int (-1000 : Int32)] s2 (fun y5 s4 => K y5 s4)) ∧ (¬ y3 = 0 → tw_ld s2 15 ((9 : Int32) + x1) (fun y6 => (y6 = (-2 : Int32) → tw_ci G l o ad h d mX3_less [.ref o, .int (1 : Int32), .int (-1000 : Int32)] s2 (fun y8 s7 => K y8 s7)) ∧ (¬ y6 = (-2 : Int32) → tw_ci G l o ad h d mX3_sameOf [.ref o, .int x1] s2 (fun y10 s9 => K y10 s9))))))) : tw_T G l o ad h d mX3_same (tw_qi G o ad h K) 0 [some (.ref o), some (.int x1)] [] s := by
  refine wq_aload_n (pc := 0) dX3_same_0 rfl rfl ?_
  refine tcq1836 (pc := 1) (As := []) (st := []) rfl dX3_same_1 rfl (Nat.le_of_ble_eq_true rfl) V (tw_kv (fun s1 V => ?_))
  refine wq_aload_n (pc := 4) dX3_same_4 rfl rfl ?_
  refine wq_iload_n (pc := 5) dX3_same_5 rfl rfl ?_
  refine tcq2047 (pc := 6) (As := [.int x1]) (st := []) rfl dX3_same_6 rfl (Nat.le_of_ble_eq_true rfl) V (tw_ki (fun y3 s2 V => ?_))
  refine wq_if_eq (pc := 9) (tgt := 34) dX3_same_9 rfl (fun c => ?_) (fun c => ?_)
  · have V := V.1 c
    refine wq_aload_n (pc := 34) dX3_same_34 rfl rfl ?_
    refine wq_iconst (pc := 35) dX3_same_35 csti1 ?_
    refine wq_sipush (pc := 36) dX3_same_36 cstsm1000 ?_
    refine tcq2091 (pc := 39) (As := [.int (1 : Int32), .int (-1000 : Int32)]) (st := []) rfl dX3_same_39 rfl (Nat.le_of_ble_eq_true rfl) V (tw_ki (fun y5 s4 V => ?_))
    refine wq_iret (pc := 42) dX3_same_42 rfl ⟨_, _, rfl, rfl, V⟩
  · have V := V.2 c
    refine wq_aload_n (pc := 12) dX3_same_12 rfl rfl ?_
    refine tg15 (pc := 13) rfl dX3_same_13 ?_
    refine wq_bipush (pc := 16) dX3_same_16 cstb9 ?_
    refine wq_iload_n (pc := 18) dX3_same_18 rfl rfl ?_
    refine wq_iadd (pc := 19) dX3_same_19 ?_
    refine tw_iald' (pc := 20) ok mia15 dX3_same_20 V (fun y6 V => ?_)
    refine wq_bipush (pc := 21) dX3_same_21 cstbm2 ?_
    refine wq_icmp_eq (pc := 23) (tgt := 34) dX3_same_23 rfl (fun c => ?_) (fun c => ?_)
    · have V := V.1 c
      refine wq_aload_n (pc := 34) dX3_same_34 rfl rfl ?_
      refine wq_iconst (pc := 35) dX3_same_35 csti1 ?_
      refine wq_sipush (pc := 36) dX3_same_36 cstsm1000 ?_
      refine tcq2091 (pc := 39) (As := [.int (1 : Int32), .int (-1000 : Int32)]) (st := []) rfl dX3_same_39 rfl (Nat.le_of_ble_eq_true rfl) V (tw_ki (fun y8 s7 V => ?_))
      refine wq_iret (pc := 42) dX3_same_42 rfl ⟨_, _, rfl, rfl, V⟩
    · have V := V.2 c
      refine wq_aload_n (pc := 26) dX3_same_26 rfl rfl ?_
      refine wq_iload_n (pc := 27) dX3_same_27 rfl rfl ?_
      refine tcq2087 (pc := 28) (As := [.int x1]) (st := []) rfl dX3_same_28 rfl (Nat.le_of_ble_eq_true rfl) V (tw_ki (fun y10 s9 V => ?_))
      refine wq_goto (pc := 31) (tgt := 42) dX3_same_31 rfl ?_
      refine wq_iret (pc := 42) dX3_same_42 rfl ⟨_, _, rfl, rfl, V⟩
theorem vX3_sameOf_0 {G : wq_G} {l : Launch} {o : Nat} {ad : Nat → Nat} {h : wq_H} {d : Nat} {K : Int32 → tw_S → Prop} (ok : tw_ok G o ad)  {x1 : Int32} {s : tw_S} (V : tw_ld s 15 ((17 : Int32) + ((4 : Int32) * x1)) (fun y1 => tw_ld s 15 (((17 : Int32) + ((4 : Int32) * x1)) + (3 : Int32)) (fun y2 => tw_ld s 15 (((17 : Int32) + ((4 : Int32) * x1)) + (1 : Int32)) (fun y3 => tw_ld s 15 (((17 : Int32) + ((4 : Int32) * x1)) + (2 : Int32)) (fun y4 => K (((y1 + y2) - y3) - y4) s))))) : tw_T G l o ad h d mX3_sameOf (tw_qi G o ad h K) 0 [some (.ref o), some (.int x1), none] [] s := by
  refine wq_bipush (pc := 0) dX3_sameOf_0 cstb17 ?_
  refine wq_iconst (pc := 2) dX3_sameOf_2 csti4 ?_
  refine wq_iload_n (pc := 3) dX3_sameOf_3 rfl rfl ?_
  refine wq_imul (pc := 4) dX3_sameOf_4 ?_
  refine wq_iadd (pc := 5) dX3_sameOf_5 ?_
  refine wq_istore_n (L' := [some (.ref o), some (.int x1), some (.int ((17 : Int32) + ((4 : Int32) * x1)))]) (pc := 6) dX3_sameOf_6 rfl (Nat.le_of_ble_eq_true rfl) rfl ?_
  refine wq_aload_n (pc := 7) dX3_sameOf_7 rfl rfl ?_
  refine tg15 (pc := 8) rfl dX3_sameOf_8 ?_
  refine wq_iload_n (pc := 11) dX3_sameOf_11 rfl rfl ?_
  refine tw_iald' (pc := 12) ok mia15 dX3_sameOf_12 V (fun y1 V => ?_)
  refine wq_aload_n (pc := 13) dX3_sameOf_13 rfl rfl ?_
  refine tg15 (pc := 14) rfl dX3_sameOf_14 ?_
  refine wq_iload_n (pc := 17) dX3_sameOf_17 rfl rfl ?_
  refine wq_iconst (pc := 18) dX3_sameOf_18 csti3 ?_
  refine wq_iadd (pc := 19) dX3_sameOf_19 ?_
  refine tw_iald' (pc := 20) ok mia15 dX3_sameOf_20 V (fun y2 V => ?_)
  refine wq_iadd (pc := 21) dX3_sameOf_21 ?_
  refine wq_aload_n (pc := 22) dX3_sameOf_22 rfl rfl ?_
  refine tg15 (pc := 23) rfl dX3_sameOf_23 ?_
  refine wq_iload_n (pc := 26) dX3_sameOf_26 rfl rfl ?_
  refine wq_iconst (pc := 27) dX3_sameOf_27 csti1 ?_
  refine wq_iadd (pc := 28) dX3_sameOf_28 ?_
  refine tw_iald' (pc := 29) ok mia15 dX3_sameOf_29 V (fun y3 V => ?_)
  refine wq_isub (pc := 30) dX3_sameOf_30 ?_
  refine wq_aload_n (pc := 31) dX3_sameOf_31 rfl rfl ?_
  refine tg15 (pc := 32) rfl dX3_sameOf_32 ?_
  refine wq_iload_n (pc := 35) dX3_sameOf_35 rfl rfl ?_
  refine wq_iconst (pc := 36) dX3_sameOf_36 csti2 ?_
  refine wq_iadd (pc := 37) dX3_sameOf_37 ?_
  refine tw_iald' (pc := 38) ok mia15 dX3_sameOf_38 V (fun y4 V => ?_)
  refine wq_isub (pc := 39) dX3_sameOf_39 ?_
  refine wq_iret (pc := 40) dX3_sameOf_40 rfl ⟨_, _, rfl, rfl, V⟩
theorem vX3_less_0 {G : wq_G} {l : Launch} {o : Nat} {ad : Nat → Nat} {h : wq_H} {d : Nat} {K : Int32 → tw_S → Prop} (ok : tw_ok G o ad)  {x1 : Int32} {x2 : Int32} {s : tw_S} (V : tw_pt s 11 x1 (fun s1 => K x2 s1)) : tw_T G l o ad h d mX3_less (tw_qi G o ad h K) 0 [some (.ref o), some (.int x1), some (.int x2)] [] s := by
  refine wq_aload_n (pc := 0) dX3_less_0 rfl rfl ?_
  refine wq_iload_n (pc := 1) dX3_less_1 rfl rfl ?_
  refine tp11 (pc := 2) rfl ok dX3_less_2 V (fun s1 V => ?_)
  refine wq_iload_n (pc := 5) dX3_less_5 rfl rfl ?_
  refine wq_iret (pc := 6) dX3_less_6 rfl ⟨_, _, rfl, rfl, V⟩
theorem vX3_cycles_0 {G : wq_G} {l : Launch} {o : Nat} {ad : Nat → Nat} {h : wq_H} {d : Nat} {K : Int32 → tw_S → Prop} (ok : tw_ok G o ad)   {s : tw_S} (V : tw_cv G l o ad h d mX3_good [.ref o] s (fun s1 => ((s1.1 14) = 0 → tw_ci G l o ad h d mX3_no [.ref o, .int (1 : Int32)] s1 (fun y3 s2 => K y3 s2)) ∧ (¬ (s1.1 14) = 0 → tw_ci G l o ad h d mX3_cycleOf [.ref o, .int (-1 : Int32)] s1 (fun y5 s4 => K (y5 + (1000 : Int32)) s4)))) : tw_T G l o ad h d mX3_cycles (tw_qi G o ad h K) 0 [some (.ref o)] [] s := by
  refine wq_aload_n (pc := 0) dX3_cycles_0 rfl rfl ?_
  refine tcq1836 (pc := 1) (As := []) (st := []) rfl dX3_cycles_1 rfl (Nat.le_of_ble_eq_true rfl) V (tw_kv (fun s1 V => ?_))
  refine wq_aload_n (pc := 4) dX3_cycles_4 rfl rfl ?_
  refine tg14 (pc := 5) rfl dX3_cycles_5 ?_
  refine wq_if_eq (pc := 8) (tgt := 23) dX3_cycles_8 rfl (fun c => ?_) (fun c => ?_)
  · have V := V.1 c
    refine wq_aload_n (pc := 23) dX3_cycles_23 rfl rfl ?_
    refine wq_iconst (pc := 24) dX3_cycles_24 csti1 ?_
    refine tcq1843 (pc := 25) (As := [.int (1 : Int32)]) (st := []) rfl dX3_cycles_25 rfl (Nat.le_of_ble_eq_true rfl) V (tw_ki (fun y3 s2 V => ?_))
    refine wq_iret (pc := 28) dX3_cycles_28 rfl ⟨_, _, rfl, rfl, V⟩
  · have V := V.2 c
    refine wq_aload_n (pc := 11) dX3_cycles_11 rfl rfl ?_
    refine wq_iconst (pc := 12) dX3_cycles_12 cstim1 ?_
    refine tcq2099 (pc := 13) (As := [.int (-1 : Int32)]) (st := []) rfl dX3_cycles_13 rfl (Nat.le_of_ble_eq_true rfl) V (tw_ki (fun y5 s4 V => ?_))
    refine wq_sipush (pc := 16) dX3_cycles_16 csts1000 ?_
    refine wq_iadd (pc := 19) dX3_cycles_19 ?_
    refine wq_goto (pc := 20) (tgt := 28) dX3_cycles_20 rfl ?_
    refine wq_iret (pc := 28) dX3_cycles_28 rfl ⟨_, _, rfl, rfl, V⟩
theorem vX3_cycleOf_0 {G : wq_G} {l : Launch} {o : Nat} {ad : Nat → Nat} {h : wq_H} {d : Nat} {K : Int32 → tw_S → Prop} (ok : tw_ok G o ad)  {x1 : Int32} {s : tw_S} (V : tw_T G l o ad h d mX3_cycleOf (tw_qi G o ad h K) 4 [some (.ref o), some (.int x1), some (.int (0 : Int32)), some (.int (0 : Int32))] [] s) : tw_T G l o ad h d mX3_cycleOf (tw_qi G o ad h K) 0 [some (.ref o), some (.int x1), none, none] [] s := by
  refine wq_iconst (pc := 0) dX3_cycleOf_0 csti0 ?_
  refine wq_istore_n (L' := [some (.ref o), some (.int x1), some (.int (0 : Int32)), none]) (pc := 1) dX3_cycleOf_1 rfl (Nat.le_of_ble_eq_true rfl) rfl ?_
  refine wq_iconst (pc := 2) dX3_cycleOf_2 csti0 ?_
  refine wq_istore_n (L' := [some (.ref o), some (.int x1), some (.int (0 : Int32)), some (.int (0 : Int32))]) (pc := 3) dX3_cycleOf_3 rfl (Nat.le_of_ble_eq_true rfl) rfl ?_
  exact V
theorem vX3_cycleOf_4 {G : wq_G} {l : Launch} {o : Nat} {ad : Nat → Nat} {h : wq_H} {d : Nat} {K : Int32 → tw_S → Prop} (ok : tw_ok G o ad)  {x1 : Int32} {x2 : Int32} {x3 : Int32} {s : tw_S} (V : tw_ld s 15 (0 : Int32) (fun y1 => (((1 : Int32) <<< (y1 &&& 31)) ≤ x3 → K (x2 - (1000 : Int32)) s) ∧ (¬ ((1 : Int32) <<< (y1 &&& 31)) ≤ x3 → tw_ci G l o ad h d mX3_isCycle [.ref o, .int x3] s (fun y3 s2 => (¬ y3 = 0 → (¬ x2 = x1 → tw_T G l o ad h d mX3_cycleOf (tw_qi G o ad h K) 4 [some (.ref o), some (.int x1), some (.int (x2 + (1 : Int32))), some (.int (x3 + (1 : Int32)))] [] s2) ∧ (x2 = x1 → K x3 s2)) ∧ (y3 = 0 → tw_T G l o ad h d mX3_cycleOf (tw_qi G o ad h K) 4 [some (.ref o), some (.int x1), some (.int x2), some (.int (x3 + (1 : Int32)))] [] s2))))) : tw_T G l o ad h d mX3_cycleOf (tw_qi G o ad h K) 4 [some (.ref o), some (.int x1), some (.int x2), some (.int x3)] [] s := by
  refine wq_iload_n (pc := 4) dX3_cycleOf_4 rfl rfl ?_
  refine wq_iconst (pc := 5) dX3_cycleOf_5 csti1 ?_
  refine wq_aload_n (pc := 6) dX3_cycleOf_6 rfl rfl ?_
  refine tg15 (pc := 7) rfl dX3_cycleOf_7 ?_
  refine wq_iconst (pc := 10) dX3_cycleOf_10 csti0 ?_
  refine tw_iald' (pc := 11) ok mia15 dX3_cycleOf_11 V (fun y1 V => ?_)
  refine wq_ishl (pc := 12) dX3_cycleOf_12 ?_
  refine wq_icmp_ge (pc := 13) (tgt := 43) dX3_cycleOf_13 rfl (fun c => ?_) (fun c => ?_)
  · have V := V.1 c
    refine wq_iload_n (pc := 43) dX3_cycleOf_43 rfl rfl ?_
    refine wq_sipush (pc := 44) dX3_cycleOf_44 csts1000 ?_
    refine wq_isub (pc := 47) dX3_cycleOf_47 ?_
    refine wq_iret (pc := 48) dX3_cycleOf_48 rfl ⟨_, _, rfl, rfl, V⟩
  · have V := V.2 c
    refine wq_aload_n (pc := 16) dX3_cycleOf_16 rfl rfl ?_
    refine wq_iload_n (pc := 17) dX3_cycleOf_17 rfl rfl ?_
    refine tcq2103 (pc := 18) (As := [.int x3]) (st := []) rfl dX3_cycleOf_18 rfl (Nat.le_of_ble_eq_true rfl) V (tw_ki (fun y3 s2 V => ?_))
    refine wq_if_ne (pc := 21) (tgt := 27) dX3_cycleOf_21 rfl (fun c => ?_) (fun c => ?_)
    · have V := V.1 c
      refine wq_iload_n (pc := 27) dX3_cycleOf_27 rfl rfl ?_
      refine wq_iload_n (pc := 28) dX3_cycleOf_28 rfl rfl ?_
      refine wq_icmp_ne (pc := 29) (tgt := 34) dX3_cycleOf_29 rfl (fun c => ?_) (fun c => ?_)
      · have V := V.1 c
        refine wq_iinc (L' := [some (.ref o), some (.int x1), some (.int (x2 + (1 : Int32))), some (.int x3)]) (pc := 34) dX3_cycleOf_34 rfl (by rw [csti1]) (Nat.le_of_ble_eq_true rfl) rfl ?_
        refine wq_iinc (L' := [some (.ref o), some (.int x1), some (.int (x2 + (1 : Int32))), some (.int (x3 + (1 : Int32)))]) (pc := 37) dX3_cycleOf_37 rfl (by rw [csti1]) (Nat.le_of_ble_eq_true rfl) rfl ?_
        refine wq_goto (pc := 40) (tgt := 4) dX3_cycleOf_40 rfl ?_
        exact V
      · have V := V.2 c
        refine wq_iload_n (pc := 32) dX3_cycleOf_32 rfl rfl ?_
        refine wq_iret (pc := 33) dX3_cycleOf_33 rfl ⟨_, _, rfl, rfl, V⟩
    · have V := V.2 c
      refine wq_goto (pc := 24) (tgt := 37) dX3_cycleOf_24 rfl ?_
      refine wq_iinc (L' := [some (.ref o), some (.int x1), some (.int x2), some (.int (x3 + (1 : Int32)))]) (pc := 37) dX3_cycleOf_37 rfl (by rw [csti1]) (Nat.le_of_ble_eq_true rfl) rfl ?_
      refine wq_goto (pc := 40) (tgt := 4) dX3_cycleOf_40 rfl ?_
      exact V
theorem vX3_isCycle_0 {G : wq_G} {l : Launch} {o : Nat} {ad : Nat → Nat} {h : wq_H} {d : Nat} {K : Int32 → tw_S → Prop} (ok : tw_ok G o ad)  {x1 : Int32} {s : tw_S} (V : tw_ld s 15 (0 : Int32) (fun y1 => tw_ci G l o ad h d mX3_within [.int x1, .int (0 : Int32), .int (((1 : Int32) <<< (y1 &&& 31)) - (1 : Int32))] s (fun y3 s2 => (y3 = 0 → K (0 : Int32) s2) ∧ (¬ y3 = 0 → tw_ci G l o ad h d mX3_bits [.int x1] s2 (fun y5 s4 => ((3 : Int32) ≤ y5 → tw_T G l o ad h d mX3_isCycle (tw_qi G o ad h K) 38 [some (.ref o), some (.int x1), some (.int (0 : Int32)), some (.int (0 : Int32)), some (.int (0 : Int32)), some (.int (0 : Int32)), none, none] [] s4) ∧ (¬ (3 : Int32) ≤ y5 → K (0 : Int32) s4)))))) : tw_T G l o ad h d mX3_isCycle (tw_qi G o ad h K) 0 [some (.ref o), some (.int x1), none, none, none, none, none, none] [] s := by
  refine wq_iload_n (pc := 0) dX3_isCycle_0 rfl rfl ?_
  refine wq_iconst (pc := 1) dX3_isCycle_1 csti0 ?_
  refine wq_iconst (pc := 2) dX3_isCycle_2 csti1 ?_
  refine wq_aload_n (pc := 3) dX3_isCycle_3 rfl rfl ?_
  refine tg15 (pc := 4) rfl dX3_isCycle_4 ?_
  refine wq_iconst (pc := 7) dX3_isCycle_7 csti0 ?_
  refine tw_iald' (pc := 8) ok mia15 dX3_isCycle_8 V (fun y1 V => ?_)
  refine wq_ishl (pc := 9) dX3_isCycle_9 ?_
  refine wq_iconst (pc := 10) dX3_isCycle_10 csti1 ?_
  refine wq_isub (pc := 11) dX3_isCycle_11 ?_
  refine tcq1840 (pc := 12) (As := [.int x1, .int (0 : Int32), .int (((1 : Int32) <<< (y1 &&& 31)) - (1 : Int32))]) (st := []) rfl dX3_isCycle_12 rfl (Nat.le_of_ble_eq_true rfl) V (tw_ki (fun y3 s2 V => ?_))
  refine wq_if_eq (pc := 15) (tgt := 26) dX3_isCycle_15 rfl (fun c => ?_) (fun c => ?_)
  · have V := V.1 c
    refine wq_iconst (pc := 26) dX3_isCycle_26 csti0 ?_
    refine wq_zret (pc := 27) dX3_isCycle_27 rfl tw_nb0 ⟨_, _, rfl, rfl, V⟩
  · have V := V.2 c
    refine wq_iload_n (pc := 18) dX3_isCycle_18 rfl rfl ?_
    refine tcq2107 (pc := 19) (As := [.int x1]) (st := []) rfl dX3_isCycle_19 rfl (Nat.le_of_ble_eq_true rfl) V (tw_ki (fun y5 s4 V => ?_))
    refine wq_iconst (pc := 22) dX3_isCycle_22 csti3 ?_
    refine wq_icmp_ge (pc := 23) (tgt := 28) dX3_isCycle_23 rfl (fun c => ?_) (fun c => ?_)
    · have V := V.1 c
      refine wq_iconst (pc := 28) dX3_isCycle_28 csti0 ?_
      refine wq_istore_n (L' := [some (.ref o), some (.int x1), some (.int (0 : Int32)), none, none, none, none, none]) (pc := 29) dX3_isCycle_29 rfl (Nat.le_of_ble_eq_true rfl) rfl ?_
      refine wq_iconst (pc := 30) dX3_isCycle_30 csti0 ?_
      refine wq_istore_n (L' := [some (.ref o), some (.int x1), some (.int (0 : Int32)), some (.int (0 : Int32)), none, none, none, none]) (pc := 31) dX3_isCycle_31 rfl (Nat.le_of_ble_eq_true rfl) rfl ?_
      refine wq_iconst (pc := 32) dX3_isCycle_32 csti0 ?_
      refine wq_istore (L' := [some (.ref o), some (.int x1), some (.int (0 : Int32)), some (.int (0 : Int32)), some (.int (0 : Int32)), none, none, none]) (pc := 33) dX3_isCycle_33 (Nat.le_of_ble_eq_true rfl) rfl ?_
      refine wq_iconst (pc := 35) dX3_isCycle_35 csti0 ?_
      refine wq_istore (L' := [some (.ref o), some (.int x1), some (.int (0 : Int32)), some (.int (0 : Int32)), some (.int (0 : Int32)), some (.int (0 : Int32)), none, none]) (pc := 36) dX3_isCycle_36 (Nat.le_of_ble_eq_true rfl) rfl ?_
      exact V
    · have V := V.2 c
      refine wq_iconst (pc := 26) dX3_isCycle_26 csti0 ?_
      refine wq_zret (pc := 27) dX3_isCycle_27 rfl tw_nb0 ⟨_, _, rfl, rfl, V⟩
theorem vX3_isCycle_38 {G : wq_G} {l : Launch} {o : Nat} {ad : Nat → Nat} {h : wq_H} {d : Nat} {K : Int32 → tw_S → Prop} (ok : tw_ok G o ad)  {x1 : Int32} {x2 : Int32} {x3 : Int32} {x4 : Int32} {x5 : Int32} {s : tw_S} (V : tw_ld s 15 (0 : Int32) (fun y1 => (y1 ≤ x5 → (x2 = x3 → tw_T G l o ad h d mX3_isCycle (tw_qi G o ad h K) 145 [some (.ref o), some (.int x1), some (.int x2), none, some (.int x4), some (.int (0 : Int32)), none, none] [] s) ∧ (¬ x2 = x3 → K (0 : Int32) s)) ∧ (¬ y1 ≤ x5 → tw_ci G l o ad h d mX3_has [.int x1, .int x5] s (fun y3 s2 => (¬ y3 = 0 → tw_ld s2 15 ((9 : Int32) + x5) (fun y4 => (¬ y4 = (-2 : Int32) → tw_ld s2 15 ((1 : Int32) + x5) (fun y5 => tw_ld s2 15 ((9 : Int32) + x5) (fun y6 => ((x3 &&& (((1 : Int32) <<< (y5 &&& 31)) ||| ((1 : Int32) <<< (y6 &&& 31)))) = 0 → tw_T G l o ad h d mX3_isCycle (tw_qi G o ad h K) 38 [some (.ref o), some (.int x1), some (.int (x2 ||| (((1 : Int32) <<< (y5 &&& 31)) ||| ((1 : Int32) <<< (y6 &&& 31))))), some (.int (x3 ||| (x2 &&& (((1 : Int32) <<< (y5 &&& 31)) ||| ((1 : Int32) <<< (y6 &&& 31)))))), some (.int (((1 : Int32) <<< (y5 &&& 31)) ||| ((1 : Int32) <<< (y6 &&& 31)))), some (.int (x5 + (1 : Int32))), none, none] [] s2) ∧ (¬ (x3 &&& (((1 : Int32) <<< (y5 &&& 31)) ||| ((1 : Int32) <<< (y6 &&& 31)))) = 0 → K (0 : Int32) s2)))) ∧ (y4 = (-2 : Int32) → K (0 : Int32) s2))) ∧ (y3 = 0 → tw_T G l o ad h d mX3_isCycle (tw_qi G o ad h K) 38 [some (.ref o), some (.int x1), some (.int x2), some (.int x3), some (.int x4), some (.int (x5 + (1 : Int32))), none, none] [] s2))))) : tw_T G l o ad h d mX3_isCycle (tw_qi G o ad h K) 38 [some (.ref o), some (.int x1), some (.int x2), some (.int x3), some (.int x4), some (.int x5), none, none] [] s := by
  refine wq_iload (pc := 38) dX3_isCycle_38 rfl ?_
  refine wq_aload_n (pc := 40) dX3_isCycle_40 rfl rfl ?_
  refine tg15 (pc := 41) rfl dX3_isCycle_41 ?_
  refine wq_iconst (pc := 44) dX3_isCycle_44 csti0 ?_
  refine tw_iald' (pc := 45) ok mia15 dX3_isCycle_45 V (fun y1 V => ?_)
  refine wq_icmp_ge (pc := 46) (tgt := 135) dX3_isCycle_46 rfl (fun c => ?_) (fun c => ?_)
  · have V := V.1 c
    refine wq_iload_n (pc := 135) dX3_isCycle_135 rfl rfl ?_
    refine wq_iload_n (pc := 136) dX3_isCycle_136 rfl rfl ?_
    refine wq_icmp_eq (pc := 137) (tgt := 142) dX3_isCycle_137 rfl (fun c => ?_) (fun c => ?_)
    · have V := V.1 c
      refine wq_iconst (pc := 142) dX3_isCycle_142 csti0 ?_
      refine wq_istore (L' := [some (.ref o), some (.int x1), some (.int x2), some (.int x3), some (.int x4), some (.int (0 : Int32)), none, none]) (pc := 143) dX3_isCycle_143 (Nat.le_of_ble_eq_true rfl) rfl ?_
      exact wq_T.less V ⟨rfl, ⟨rfl, ⟨rfl, ⟨rfl, ⟨rfl, trivial⟩⟩⟩⟩⟩
    · have V := V.2 c
      refine wq_iconst (pc := 140) dX3_isCycle_140 csti0 ?_
      refine wq_zret (pc := 141) dX3_isCycle_141 rfl tw_nb0 ⟨_, _, rfl, rfl, V⟩
  · have V := V.2 c
    refine wq_iload_n (pc := 49) dX3_isCycle_49 rfl rfl ?_
    refine wq_iload (pc := 50) dX3_isCycle_50 rfl ?_
    refine tcq1948 (pc := 52) (As := [.int x1, .int x5]) (st := []) rfl dX3_isCycle_52 rfl (Nat.le_of_ble_eq_true rfl) V (tw_ki (fun y3 s2 V => ?_))
    refine wq_if_ne (pc := 55) (tgt := 61) dX3_isCycle_55 rfl (fun c => ?_) (fun c => ?_)
    · have V := V.1 c
      refine wq_aload_n (pc := 61) dX3_isCycle_61 rfl rfl ?_
      refine tg15 (pc := 62) rfl dX3_isCycle_62 ?_
      refine wq_bipush (pc := 65) dX3_isCycle_65 cstb9 ?_
      refine wq_iload (pc := 67) dX3_isCycle_67 rfl ?_
      refine wq_iadd (pc := 69) dX3_isCycle_69 ?_
      refine tw_iald' (pc := 70) ok mia15 dX3_isCycle_70 V (fun y4 V => ?_)
      refine wq_bipush (pc := 71) dX3_isCycle_71 cstbm2 ?_
      refine wq_icmp_ne (pc := 73) (tgt := 78) dX3_isCycle_73 rfl (fun c => ?_) (fun c => ?_)
      · have V := V.1 c
        refine wq_iconst (pc := 78) dX3_isCycle_78 csti1 ?_
        refine wq_aload_n (pc := 79) dX3_isCycle_79 rfl rfl ?_
        refine tg15 (pc := 80) rfl dX3_isCycle_80 ?_
        refine wq_iconst (pc := 83) dX3_isCycle_83 csti1 ?_
        refine wq_iload (pc := 84) dX3_isCycle_84 rfl ?_
        refine wq_iadd (pc := 86) dX3_isCycle_86 ?_
        refine tw_iald' (pc := 87) ok mia15 dX3_isCycle_87 V (fun y5 V => ?_)
        refine wq_ishl (pc := 88) dX3_isCycle_88 ?_
        refine wq_iconst (pc := 89) dX3_isCycle_89 csti1 ?_
        refine wq_aload_n (pc := 90) dX3_isCycle_90 rfl rfl ?_
        refine tg15 (pc := 91) rfl dX3_isCycle_91 ?_
        refine wq_bipush (pc := 94) dX3_isCycle_94 cstb9 ?_
        refine wq_iload (pc := 96) dX3_isCycle_96 rfl ?_
        refine wq_iadd (pc := 98) dX3_isCycle_98 ?_
        refine tw_iald' (pc := 99) ok mia15 dX3_isCycle_99 V (fun y6 V => ?_)
        refine wq_ishl (pc := 100) dX3_isCycle_100 ?_
        refine wq_ior (pc := 101) dX3_isCycle_101 ?_
        refine wq_istore (L' := [some (.ref o), some (.int x1), some (.int x2), some (.int x3), some (.int x4), some (.int x5), some (.int (((1 : Int32) <<< (y5 &&& 31)) ||| ((1 : Int32) <<< (y6 &&& 31)))), none]) (pc := 102) dX3_isCycle_102 (Nat.le_of_ble_eq_true rfl) rfl ?_
        refine wq_iload_n (pc := 104) dX3_isCycle_104 rfl rfl ?_
        refine wq_iload (pc := 105) dX3_isCycle_105 rfl ?_
        refine wq_iand (pc := 107) dX3_isCycle_107 ?_
        refine wq_if_eq (pc := 108) (tgt := 113) dX3_isCycle_108 rfl (fun c => ?_) (fun c => ?_)
        · have V := V.1 c
          refine wq_iload_n (pc := 113) dX3_isCycle_113 rfl rfl ?_
          refine wq_iload_n (pc := 114) dX3_isCycle_114 rfl rfl ?_
          refine wq_iload (pc := 115) dX3_isCycle_115 rfl ?_
          refine wq_iand (pc := 117) dX3_isCycle_117 ?_
          refine wq_ior (pc := 118) dX3_isCycle_118 ?_
          refine wq_istore_n (L' := [some (.ref o), some (.int x1), some (.int x2), some (.int (x3 ||| (x2 &&& (((1 : Int32) <<< (y5 &&& 31)) ||| ((1 : Int32) <<< (y6 &&& 31)))))), some (.int x4), some (.int x5), some (.int (((1 : Int32) <<< (y5 &&& 31)) ||| ((1 : Int32) <<< (y6 &&& 31)))), none]) (pc := 119) dX3_isCycle_119 rfl (Nat.le_of_ble_eq_true rfl) rfl ?_
          refine wq_iload_n (pc := 120) dX3_isCycle_120 rfl rfl ?_
          refine wq_iload (pc := 121) dX3_isCycle_121 rfl ?_
          refine wq_ior (pc := 123) dX3_isCycle_123 ?_
          refine wq_istore_n (L' := [some (.ref o), some (.int x1), some (.int (x2 ||| (((1 : Int32) <<< (y5 &&& 31)) ||| ((1 : Int32) <<< (y6 &&& 31))))), some (.int (x3 ||| (x2 &&& (((1 : Int32) <<< (y5 &&& 31)) ||| ((1 : Int32) <<< (y6 &&& 31)))))), some (.int x4), some (.int x5), some (.int (((1 : Int32) <<< (y5 &&& 31)) ||| ((1 : Int32) <<< (y6 &&& 31)))), none]) (pc := 124) dX3_isCycle_124 rfl (Nat.le_of_ble_eq_true rfl) rfl ?_
          refine wq_iload (pc := 125) dX3_isCycle_125 rfl ?_
          refine wq_istore (L' := [some (.ref o), some (.int x1), some (.int (x2 ||| (((1 : Int32) <<< (y5 &&& 31)) ||| ((1 : Int32) <<< (y6 &&& 31))))), some (.int (x3 ||| (x2 &&& (((1 : Int32) <<< (y5 &&& 31)) ||| ((1 : Int32) <<< (y6 &&& 31)))))), some (.int (((1 : Int32) <<< (y5 &&& 31)) ||| ((1 : Int32) <<< (y6 &&& 31)))), some (.int x5), some (.int (((1 : Int32) <<< (y5 &&& 31)) ||| ((1 : Int32) <<< (y6 &&& 31)))), none]) (pc := 127) dX3_isCycle_127 (Nat.le_of_ble_eq_true rfl) rfl ?_
          refine wq_iinc (L' := [some (.ref o), some (.int x1), some (.int (x2 ||| (((1 : Int32) <<< (y5 &&& 31)) ||| ((1 : Int32) <<< (y6 &&& 31))))), some (.int (x3 ||| (x2 &&& (((1 : Int32) <<< (y5 &&& 31)) ||| ((1 : Int32) <<< (y6 &&& 31)))))), some (.int (((1 : Int32) <<< (y5 &&& 31)) ||| ((1 : Int32) <<< (y6 &&& 31)))), some (.int (x5 + (1 : Int32))), some (.int (((1 : Int32) <<< (y5 &&& 31)) ||| ((1 : Int32) <<< (y6 &&& 31)))), none]) (pc := 129) dX3_isCycle_129 rfl (by rw [csti1]) (Nat.le_of_ble_eq_true rfl) rfl ?_
          refine wq_goto (pc := 132) (tgt := 38) dX3_isCycle_132 rfl ?_
          exact wq_T.less V ⟨rfl, ⟨rfl, ⟨rfl, ⟨rfl, ⟨rfl, ⟨rfl, trivial⟩⟩⟩⟩⟩⟩
        · have V := V.2 c
          refine wq_iconst (pc := 111) dX3_isCycle_111 csti0 ?_
          refine wq_zret (pc := 112) dX3_isCycle_112 rfl tw_nb0 ⟨_, _, rfl, rfl, V⟩
      · have V := V.2 c
        refine wq_iconst (pc := 76) dX3_isCycle_76 csti0 ?_
        refine wq_zret (pc := 77) dX3_isCycle_77 rfl tw_nb0 ⟨_, _, rfl, rfl, V⟩
    · have V := V.2 c
      refine wq_goto (pc := 58) (tgt := 129) dX3_isCycle_58 rfl ?_
      refine wq_iinc (L' := [some (.ref o), some (.int x1), some (.int x2), some (.int x3), some (.int x4), some (.int (x5 + (1 : Int32))), none, none]) (pc := 129) dX3_isCycle_129 rfl (by rw [csti1]) (Nat.le_of_ble_eq_true rfl) rfl ?_
      refine wq_goto (pc := 132) (tgt := 38) dX3_isCycle_132 rfl ?_
      exact V
theorem vX3_isCycle_145 {G : wq_G} {l : Launch} {o : Nat} {ad : Nat → Nat} {h : wq_H} {d : Nat} {K : Int32 → tw_S → Prop} (ok : tw_ok G o ad)  {x1 : Int32} {x2 : Int32} {x4 : Int32} {x5 : Int32} {s : tw_S} (V : (x4 = x5 → (¬ x4 = x2 → K (0 : Int32) s) ∧ (x4 = x2 → K (1 : Int32) s)) ∧ (¬ x4 = x5 → tw_T G l o ad h d mX3_isCycle (tw_qi G o ad h K) 159 [some (.ref o), some (.int x1), some (.int x2), none, some (.int x4), some (.int x4), some (.int (0 : Int32)), none] [] s)) : tw_T G l o ad h d mX3_isCycle (tw_qi G o ad h K) 145 [some (.ref o), some (.int x1), some (.int x2), none, some (.int x4), some (.int x5), none, none] [] s := by
  refine wq_iload (pc := 145) dX3_isCycle_145 rfl ?_
  refine wq_iload (pc := 147) dX3_isCycle_147 rfl ?_
  refine wq_icmp_eq (pc := 149) (tgt := 237) dX3_isCycle_149 rfl (fun c => ?_) (fun c => ?_)
  · have V := V.1 c
    refine wq_iload (pc := 237) dX3_isCycle_237 rfl ?_
    refine wq_iload_n (pc := 239) dX3_isCycle_239 rfl rfl ?_
    refine wq_icmp_ne (pc := 240) (tgt := 247) dX3_isCycle_240 rfl (fun c => ?_) (fun c => ?_)
    · have V := V.1 c
      refine wq_iconst (pc := 247) dX3_isCycle_247 csti0 ?_
      refine wq_zret (pc := 248) dX3_isCycle_248 rfl tw_nb0 ⟨_, _, rfl, rfl, V⟩
    · have V := V.2 c
      refine wq_iconst (pc := 243) dX3_isCycle_243 csti1 ?_
      refine wq_goto (pc := 244) (tgt := 248) dX3_isCycle_244 rfl ?_
      refine wq_zret (pc := 248) dX3_isCycle_248 rfl tw_nb1 ⟨_, _, rfl, rfl, V⟩
  · have V := V.2 c
    refine wq_iload (pc := 152) dX3_isCycle_152 rfl ?_
    refine wq_istore (L' := [some (.ref o), some (.int x1), some (.int x2), none, some (.int x4), some (.int x4), none, none]) (pc := 154) dX3_isCycle_154 (Nat.le_of_ble_eq_true rfl) rfl ?_
    refine wq_iconst (pc := 156) dX3_isCycle_156 csti0 ?_
    refine wq_istore (L' := [some (.ref o), some (.int x1), some (.int x2), none, some (.int x4), some (.int x4), some (.int (0 : Int32)), none]) (pc := 157) dX3_isCycle_157 (Nat.le_of_ble_eq_true rfl) rfl ?_
    exact V
theorem vX3_isCycle_159 {G : wq_G} {l : Launch} {o : Nat} {ad : Nat → Nat} {h : wq_H} {d : Nat} {K : Int32 → tw_S → Prop} (ok : tw_ok G o ad)  {x1 : Int32} {x2 : Int32} {x4 : Int32} {x5 : Int32} {x6 : Int32} {s : tw_S} (V : tw_ld s 15 (0 : Int32) (fun y1 => (y1 ≤ x6 → tw_T G l o ad h d mX3_isCycle (tw_qi G o ad h K) 145 [some (.ref o), some (.int x1), some (.int x2), none, some (.int x4), some (.int x5), none, none] [] s) ∧ (¬ y1 ≤ x6 → tw_ci G l o ad h d mX3_has [.int x1, .int x6] s (fun y3 s2 => (y3 = 0 → (((0 : Int32) &&& x4) = 0 → tw_T G l o ad h d mX3_isCycle (tw_qi G o ad h K) 159 [some (.ref o), some (.int x1), some (.int x2), none, some (.int (x4 ||| (0 : Int32))), some (.int x5), some (.int (x6 + (1 : Int32))), none] [] s2) ∧ (¬ ((0 : Int32) &&& x4) = 0 → tw_T G l o ad h d mX3_isCycle (tw_qi G o ad h K) 159 [some (.ref o), some (.int x1), some (.int x2), none, some (.int (x4 ||| (0 : Int32))), some (.int x5), some (.int (x6 + (1 : Int32))), none] [] s2)) ∧ (¬ y3 = 0 → tw_ld s2 15 ((1 : Int32) + x6) (fun y4 => tw_ld s2 15 ((9 : Int32) + x6) (fun y5 => (((((1 : Int32) <<< (y4 &&& 31)) ||| ((1 : Int32) <<< (y5 &&& 31))) &&& x4) = 0 → tw_T G l o ad h d mX3_isCycle (tw_qi G o ad h K) 159 [some (.ref o), some (.int x1), some (.int x2), none, some (.int (x4 ||| (0 : Int32))), some (.int x5), some (.int (x6 + (1 : Int32))), none] [] s2) ∧ (¬ ((((1 : Int32) <<< (y4 &&& 31)) ||| ((1 : Int32) <<< (y5 &&& 31))) &&& x4) = 0 → tw_T G l o ad h d mX3_isCycle (tw_qi G o ad h K) 159 [some (.ref o), some (.int x1), some (.int x2), none, some (.int (x4 ||| (((1 : Int32) <<< (y4 &&& 31)) ||| ((1 : Int32) <<< (y5 &&& 31))))), some (.int x5), some (.int (x6 + (1 : Int32))), none] [] s2)))))))) : tw_T G l o ad h d mX3_isCycle (tw_qi G o ad h K) 159 [some (.ref o), some (.int x1), some (.int x2), none, some (.int x4), some (.int x5), some (.int x6), none] [] s := by
  refine wq_iload (pc := 159) dX3_isCycle_159 rfl ?_
  refine wq_aload_n (pc := 161) dX3_isCycle_161 rfl rfl ?_
  refine tg15 (pc := 162) rfl dX3_isCycle_162 ?_
  refine wq_iconst (pc := 165) dX3_isCycle_165 csti0 ?_
  refine tw_iald' (pc := 166) ok mia15 dX3_isCycle_166 V (fun y1 V => ?_)
  refine wq_icmp_ge (pc := 167) (tgt := 234) dX3_isCycle_167 rfl (fun c => ?_) (fun c => ?_)
  · have V := V.1 c
    refine wq_goto (pc := 234) (tgt := 145) dX3_isCycle_234 rfl ?_
    exact wq_T.less V ⟨rfl, ⟨rfl, ⟨rfl, ⟨rfl, ⟨rfl, trivial⟩⟩⟩⟩⟩
  · have V := V.2 c
    refine wq_iload_n (pc := 170) dX3_isCycle_170 rfl rfl ?_
    refine wq_iload (pc := 171) dX3_isCycle_171 rfl ?_
    refine tcq1948 (pc := 173) (As := [.int x1, .int x6]) (st := []) rfl dX3_isCycle_173 rfl (Nat.le_of_ble_eq_true rfl) V (tw_ki (fun y3 s2 V => ?_))
    refine wq_if_eq (pc := 176) (tgt := 206) dX3_isCycle_176 rfl (fun c => ?_) (fun c => ?_)
    · have V := V.1 c
      refine wq_iconst (pc := 206) dX3_isCycle_206 csti0 ?_
      refine wq_istore (L' := [some (.ref o), some (.int x1), some (.int x2), none, some (.int x4), some (.int x5), some (.int x6), some (.int (0 : Int32))]) (pc := 207) dX3_isCycle_207 (Nat.le_of_ble_eq_true rfl) rfl ?_
      refine wq_iload (pc := 209) dX3_isCycle_209 rfl ?_
      refine wq_iload (pc := 211) dX3_isCycle_211 rfl ?_
      refine wq_iload (pc := 213) dX3_isCycle_213 rfl ?_
      refine wq_iand (pc := 215) dX3_isCycle_215 ?_
      refine wq_if_eq (pc := 216) (tgt := 224) dX3_isCycle_216 rfl (fun c => ?_) (fun c => ?_)
      · have V := V.1 c
        refine wq_iconst (pc := 224) dX3_isCycle_224 csti0 ?_
        refine wq_ior (pc := 225) dX3_isCycle_225 ?_
        refine wq_istore (L' := [some (.ref o), some (.int x1), some (.int x2), none, some (.int (x4 ||| (0 : Int32))), some (.int x5), some (.int x6), some (.int (0 : Int32))]) (pc := 226) dX3_isCycle_226 (Nat.le_of_ble_eq_true rfl) rfl ?_
        refine wq_iinc (L' := [some (.ref o), some (.int x1), some (.int x2), none, some (.int (x4 ||| (0 : Int32))), some (.int x5), some (.int (x6 + (1 : Int32))), some (.int (0 : Int32))]) (pc := 228) dX3_isCycle_228 rfl (by rw [csti1]) (Nat.le_of_ble_eq_true rfl) rfl ?_
        refine wq_goto (pc := 231) (tgt := 159) dX3_isCycle_231 rfl ?_
        exact wq_T.less V ⟨rfl, ⟨rfl, ⟨rfl, ⟨rfl, ⟨rfl, ⟨rfl, trivial⟩⟩⟩⟩⟩⟩
      · have V := V.2 c
        refine wq_iload (pc := 219) dX3_isCycle_219 rfl ?_
        refine wq_goto (pc := 221) (tgt := 225) dX3_isCycle_221 rfl ?_
        refine wq_ior (pc := 225) dX3_isCycle_225 ?_
        refine wq_istore (L' := [some (.ref o), some (.int x1), some (.int x2), none, some (.int (x4 ||| (0 : Int32))), some (.int x5), some (.int x6), some (.int (0 : Int32))]) (pc := 226) dX3_isCycle_226 (Nat.le_of_ble_eq_true rfl) rfl ?_
        refine wq_iinc (L' := [some (.ref o), some (.int x1), some (.int x2), none, some (.int (x4 ||| (0 : Int32))), some (.int x5), some (.int (x6 + (1 : Int32))), some (.int (0 : Int32))]) (pc := 228) dX3_isCycle_228 rfl (by rw [csti1]) (Nat.le_of_ble_eq_true rfl) rfl ?_
        refine wq_goto (pc := 231) (tgt := 159) dX3_isCycle_231 rfl ?_
        exact wq_T.less V ⟨rfl, ⟨rfl, ⟨rfl, ⟨rfl, ⟨rfl, ⟨rfl, trivial⟩⟩⟩⟩⟩⟩
    · have V := V.2 c
      refine wq_iconst (pc := 179) dX3_isCycle_179 csti1 ?_
      refine wq_aload_n (pc := 180) dX3_isCycle_180 rfl rfl ?_
      refine tg15 (pc := 181) rfl dX3_isCycle_181 ?_
      refine wq_iconst (pc := 184) dX3_isCycle_184 csti1 ?_
      refine wq_iload (pc := 185) dX3_isCycle_185 rfl ?_
      refine wq_iadd (pc := 187) dX3_isCycle_187 ?_
      refine tw_iald' (pc := 188) ok mia15 dX3_isCycle_188 V (fun y4 V => ?_)
      refine wq_ishl (pc := 189) dX3_isCycle_189 ?_
      refine wq_iconst (pc := 190) dX3_isCycle_190 csti1 ?_
      refine wq_aload_n (pc := 191) dX3_isCycle_191 rfl rfl ?_
      refine tg15 (pc := 192) rfl dX3_isCycle_192 ?_
      refine wq_bipush (pc := 195) dX3_isCycle_195 cstb9 ?_
      refine wq_iload (pc := 197) dX3_isCycle_197 rfl ?_
      refine wq_iadd (pc := 199) dX3_isCycle_199 ?_
      refine tw_iald' (pc := 200) ok mia15 dX3_isCycle_200 V (fun y5 V => ?_)
      refine wq_ishl (pc := 201) dX3_isCycle_201 ?_
      refine wq_ior (pc := 202) dX3_isCycle_202 ?_
      refine wq_goto (pc := 203) (tgt := 207) dX3_isCycle_203 rfl ?_
      refine wq_istore (L' := [some (.ref o), some (.int x1), some (.int x2), none, some (.int x4), some (.int x5), some (.int x6), some (.int (((1 : Int32) <<< (y4 &&& 31)) ||| ((1 : Int32) <<< (y5 &&& 31))))]) (pc := 207) dX3_isCycle_207 (Nat.le_of_ble_eq_true rfl) rfl ?_
      refine wq_iload (pc := 209) dX3_isCycle_209 rfl ?_
      refine wq_iload (pc := 211) dX3_isCycle_211 rfl ?_
      refine wq_iload (pc := 213) dX3_isCycle_213 rfl ?_
      refine wq_iand (pc := 215) dX3_isCycle_215 ?_
      refine wq_if_eq (pc := 216) (tgt := 224) dX3_isCycle_216 rfl (fun c => ?_) (fun c => ?_)
      · have V := V.1 c
        refine wq_iconst (pc := 224) dX3_isCycle_224 csti0 ?_
        refine wq_ior (pc := 225) dX3_isCycle_225 ?_
        refine wq_istore (L' := [some (.ref o), some (.int x1), some (.int x2), none, some (.int (x4 ||| (0 : Int32))), some (.int x5), some (.int x6), some (.int (((1 : Int32) <<< (y4 &&& 31)) ||| ((1 : Int32) <<< (y5 &&& 31))))]) (pc := 226) dX3_isCycle_226 (Nat.le_of_ble_eq_true rfl) rfl ?_
        refine wq_iinc (L' := [some (.ref o), some (.int x1), some (.int x2), none, some (.int (x4 ||| (0 : Int32))), some (.int x5), some (.int (x6 + (1 : Int32))), some (.int (((1 : Int32) <<< (y4 &&& 31)) ||| ((1 : Int32) <<< (y5 &&& 31))))]) (pc := 228) dX3_isCycle_228 rfl (by rw [csti1]) (Nat.le_of_ble_eq_true rfl) rfl ?_
        refine wq_goto (pc := 231) (tgt := 159) dX3_isCycle_231 rfl ?_
        exact wq_T.less V ⟨rfl, ⟨rfl, ⟨rfl, ⟨rfl, ⟨rfl, ⟨rfl, trivial⟩⟩⟩⟩⟩⟩
      · have V := V.2 c
        refine wq_iload (pc := 219) dX3_isCycle_219 rfl ?_
        refine wq_goto (pc := 221) (tgt := 225) dX3_isCycle_221 rfl ?_
        refine wq_ior (pc := 225) dX3_isCycle_225 ?_
        refine wq_istore (L' := [some (.ref o), some (.int x1), some (.int x2), none, some (.int (x4 ||| (((1 : Int32) <<< (y4 &&& 31)) ||| ((1 : Int32) <<< (y5 &&& 31))))), some (.int x5), some (.int x6), some (.int (((1 : Int32) <<< (y4 &&& 31)) ||| ((1 : Int32) <<< (y5 &&& 31))))]) (pc := 226) dX3_isCycle_226 (Nat.le_of_ble_eq_true rfl) rfl ?_
        refine wq_iinc (L' := [some (.ref o), some (.int x1), some (.int x2), none, some (.int (x4 ||| (((1 : Int32) <<< (y4 &&& 31)) ||| ((1 : Int32) <<< (y5 &&& 31))))), some (.int x5), some (.int (x6 + (1 : Int32))), some (.int (((1 : Int32) <<< (y4 &&& 31)) ||| ((1 : Int32) <<< (y5 &&& 31))))]) (pc := 228) dX3_isCycle_228 rfl (by rw [csti1]) (Nat.le_of_ble_eq_true rfl) rfl ?_
        refine wq_goto (pc := 231) (tgt := 159) dX3_isCycle_231 rfl ?_
        exact wq_T.less V ⟨rfl, ⟨rfl, ⟨rfl, ⟨rfl, ⟨rfl, ⟨rfl, trivial⟩⟩⟩⟩⟩⟩
theorem vX3_bits_0 {G : wq_G} {l : Launch} {o : Nat} {ad : Nat → Nat} {h : wq_H} {d : Nat} {K : Int32 → tw_S → Prop} (ok : tw_ok G o ad)  {x0 : Int32} {s : tw_S} (V : tw_T G l o ad h d mX3_bits (tw_qi G o ad h K) 4 [some (.int x0), some (.int (0 : Int32)), some (.int (0 : Int32))] [] s) : tw_T G l o ad h d mX3_bits (tw_qi G o ad h K) 0 [some (.int x0), none, none] [] s := by
  refine wq_iconst (pc := 0) dX3_bits_0 csti0 ?_
  refine wq_istore_n (L' := [some (.int x0), some (.int (0 : Int32)), none]) (pc := 1) dX3_bits_1 rfl (Nat.le_of_ble_eq_true rfl) rfl ?_
  refine wq_iconst (pc := 2) dX3_bits_2 csti0 ?_
  refine wq_istore_n (L' := [some (.int x0), some (.int (0 : Int32)), some (.int (0 : Int32))]) (pc := 3) dX3_bits_3 rfl (Nat.le_of_ble_eq_true rfl) rfl ?_
  exact V
theorem vX3_bits_4 {G : wq_G} {l : Launch} {o : Nat} {ad : Nat → Nat} {h : wq_H} {d : Nat} {K : Int32 → tw_S → Prop} (ok : tw_ok G o ad)  {x0 : Int32} {x1 : Int32} {x2 : Int32} {s : tw_S} (V : ((20 : Int32) ≤ x2 → K x1 s) ∧ (¬ (20 : Int32) ≤ x2 → tw_T G l o ad h d mX3_bits (tw_qi G o ad h K) 4 [some (.int x0), some (.int (x1 + ((x0 >>> (x2 &&& 31)) &&& (1 : Int32)))), some (.int (x2 + (1 : Int32)))] [] s)) : tw_T G l o ad h d mX3_bits (tw_qi G o ad h K) 4 [some (.int x0), some (.int x1), some (.int x2)] [] s := by
  refine wq_iload_n (pc := 4) dX3_bits_4 rfl rfl ?_
  refine wq_bipush (pc := 5) dX3_bits_5 cstb20 ?_
  refine wq_icmp_ge (pc := 7) (tgt := 24) dX3_bits_7 rfl (fun c => ?_) (fun c => ?_)
  · have V := V.1 c
    refine wq_iload_n (pc := 24) dX3_bits_24 rfl rfl ?_
    refine wq_iret (pc := 25) dX3_bits_25 rfl ⟨_, _, rfl, rfl, V⟩
  · have V := V.2 c
    refine wq_iload_n (pc := 10) dX3_bits_10 rfl rfl ?_
    refine wq_iload_n (pc := 11) dX3_bits_11 rfl rfl ?_
    refine wq_iload_n (pc := 12) dX3_bits_12 rfl rfl ?_
    refine wq_ishr (pc := 13) dX3_bits_13 ?_
    refine wq_iconst (pc := 14) dX3_bits_14 csti1 ?_
    refine wq_iand (pc := 15) dX3_bits_15 ?_
    refine wq_iadd (pc := 16) dX3_bits_16 ?_
    refine wq_istore_n (L' := [some (.int x0), some (.int (x1 + ((x0 >>> (x2 &&& 31)) &&& (1 : Int32)))), some (.int x2)]) (pc := 17) dX3_bits_17 rfl (Nat.le_of_ble_eq_true rfl) rfl ?_
    refine wq_iinc (L' := [some (.int x0), some (.int (x1 + ((x0 >>> (x2 &&& 31)) &&& (1 : Int32)))), some (.int (x2 + (1 : Int32)))]) (pc := 18) dX3_bits_18 rfl (by rw [csti1]) (Nat.le_of_ble_eq_true rfl) rfl ?_
    refine wq_goto (pc := 21) (tgt := 4) dX3_bits_21 rfl ?_
    exact V
theorem vX3_cycle_0 {G : wq_G} {l : Launch} {o : Nat} {ad : Nat → Nat} {h : wq_H} {d : Nat} {K : Int32 → tw_S → Prop} (ok : tw_ok G o ad)  {x1 : Int32} {s : tw_S} (V : tw_cv G l o ad h d mX3_good [.ref o] s (fun s1 => ((s1.1 14) = 0 → tw_ci G l o ad h d mX3_no [.ref o, .int (1 : Int32)] s1 (fun y3 s2 => K y3 s2)) ∧ (¬ (s1.1 14) = 0 → (0 ≤ x1 → tw_ci G l o ad h d mX3_cycleOf [.ref o, .int x1] s1 (fun y5 s4 => (0 ≤ y5 → K y5 s4) ∧ (¬ 0 ≤ y5 → tw_ci G l o ad h d mX3_no [.ref o, .int (1 : Int32)] s4 (fun y7 s6 => K y7 s6)))) ∧ (¬ 0 ≤ x1 → tw_ci G l o ad h d mX3_no [.ref o, .int (1 : Int32)] s1 (fun y9 s8 => K y9 s8))))) : tw_T G l o ad h d mX3_cycle (tw_qi G o ad h K) 0 [some (.ref o), some (.int x1), none] [] s := by
  refine wq_aload_n (pc := 0) dX3_cycle_0 rfl rfl ?_
  refine tcq1836 (pc := 1) (As := []) (st := []) rfl dX3_cycle_1 rfl (Nat.le_of_ble_eq_true rfl) V (tw_kv (fun s1 V => ?_))
  refine wq_aload_n (pc := 4) dX3_cycle_4 rfl rfl ?_
  refine tg14 (pc := 5) rfl dX3_cycle_5 ?_
  refine wq_if_eq (pc := 8) (tgt := 15) dX3_cycle_8 rfl (fun c => ?_) (fun c => ?_)
  · have V := V.1 c
    refine wq_aload_n (pc := 15) dX3_cycle_15 rfl rfl ?_
    refine wq_iconst (pc := 16) dX3_cycle_16 csti1 ?_
    refine tcq1843 (pc := 17) (As := [.int (1 : Int32)]) (st := []) rfl dX3_cycle_17 rfl (Nat.le_of_ble_eq_true rfl) V (tw_ki (fun y3 s2 V => ?_))
    refine wq_iret (pc := 20) dX3_cycle_20 rfl ⟨_, _, rfl, rfl, V⟩
  · have V := V.2 c
    refine wq_iload_n (pc := 11) dX3_cycle_11 rfl rfl ?_
    refine wq_if_ge (pc := 12) (tgt := 21) dX3_cycle_12 rfl (fun c => ?_) (fun c => ?_)
    · have V := V.1 c
      refine wq_aload_n (pc := 21) dX3_cycle_21 rfl rfl ?_
      refine wq_iload_n (pc := 22) dX3_cycle_22 rfl rfl ?_
      refine tcq2099 (pc := 23) (As := [.int x1]) (st := []) rfl dX3_cycle_23 rfl (Nat.le_of_ble_eq_true rfl) V (tw_ki (fun y5 s4 V => ?_))
      refine wq_istore_n (L' := [some (.ref o), some (.int x1), some (.int y5)]) (pc := 26) dX3_cycle_26 rfl (Nat.le_of_ble_eq_true rfl) rfl ?_
      refine wq_iload_n (pc := 27) dX3_cycle_27 rfl rfl ?_
      refine wq_if_ge (pc := 28) (tgt := 39) dX3_cycle_28 rfl (fun c => ?_) (fun c => ?_)
      · have V := V.1 c
        refine wq_iload_n (pc := 39) dX3_cycle_39 rfl rfl ?_
        refine wq_iret (pc := 40) dX3_cycle_40 rfl ⟨_, _, rfl, rfl, V⟩
      · have V := V.2 c
        refine wq_aload_n (pc := 31) dX3_cycle_31 rfl rfl ?_
        refine wq_iconst (pc := 32) dX3_cycle_32 csti1 ?_
        refine tcq1843 (pc := 33) (As := [.int (1 : Int32)]) (st := []) rfl dX3_cycle_33 rfl (Nat.le_of_ble_eq_true rfl) V (tw_ki (fun y7 s6 V => ?_))
        refine wq_goto (pc := 36) (tgt := 40) dX3_cycle_36 rfl ?_
        refine wq_iret (pc := 40) dX3_cycle_40 rfl ⟨_, _, rfl, rfl, V⟩
    · have V := V.2 c
      refine wq_aload_n (pc := 15) dX3_cycle_15 rfl rfl ?_
      refine wq_iconst (pc := 16) dX3_cycle_16 csti1 ?_
      refine tcq1843 (pc := 17) (As := [.int (1 : Int32)]) (st := []) rfl dX3_cycle_17 rfl (Nat.le_of_ble_eq_true rfl) V (tw_ki (fun y9 s8 V => ?_))
      refine wq_iret (pc := 20) dX3_cycle_20 rfl ⟨_, _, rfl, rfl, V⟩
theorem vX3_excess_0 {G : wq_G} {l : Launch} {o : Nat} {ad : Nat → Nat} {h : wq_H} {d : Nat} {K : Int32 → tw_S → Prop} (ok : tw_ok G o ad)  {x1 : Int32} {s : tw_S} (V : tw_cv G l o ad h d mX3_good [.ref o] s (fun s1 => (¬ (s1.1 14) = 0 → tw_ci G l o ad h d mX3_isCycle [.ref o, .int x1] s1 (fun y3 s2 => (y3 = 0 → tw_ci G l o ad h d mX3_less [.ref o, .int (5 : Int32), .int (-1000 : Int32)] s2 (fun y5 s4 => K y5 s4)) ∧ (¬ y3 = 0 → tw_ci G l o ad h d mX3_excessOf [.ref o, .int x1] s2 (fun y7 s6 => K y7 s6)))) ∧ ((s1.1 14) = 0 → tw_ci G l o ad h d mX3_less [.ref o, .int (1 : Int32), .int (-1000 : Int32)] s1 (fun y9 s8 => K y9 s8)))) : tw_T G l o ad h d mX3_excess (tw_qi G o ad h K) 0 [some (.ref o), some (.int x1)] [] s := by
  refine wq_aload_n (pc := 0) dX3_excess_0 rfl rfl ?_
  refine tcq1836 (pc := 1) (As := []) (st := []) rfl dX3_excess_1 rfl (Nat.le_of_ble_eq_true rfl) V (tw_kv (fun s1 V => ?_))
  refine wq_aload_n (pc := 4) dX3_excess_4 rfl rfl ?_
  refine tg14 (pc := 5) rfl dX3_excess_5 ?_
  refine wq_if_ne (pc := 8) (tgt := 20) dX3_excess_8 rfl (fun c => ?_) (fun c => ?_)
  · have V := V.1 c
    refine wq_aload_n (pc := 20) dX3_excess_20 rfl rfl ?_
    refine wq_iload_n (pc := 21) dX3_excess_21 rfl rfl ?_
    refine tcq2103 (pc := 22) (As := [.int x1]) (st := []) rfl dX3_excess_22 rfl (Nat.le_of_ble_eq_true rfl) V (tw_ki (fun y3 s2 V => ?_))
    refine wq_if_eq (pc := 25) (tgt := 36) dX3_excess_25 rfl (fun c => ?_) (fun c => ?_)
    · have V := V.1 c
      refine wq_aload_n (pc := 36) dX3_excess_36 rfl rfl ?_
      refine wq_iconst (pc := 37) dX3_excess_37 csti5 ?_
      refine wq_sipush (pc := 38) dX3_excess_38 cstsm1000 ?_
      refine tcq2091 (pc := 41) (As := [.int (5 : Int32), .int (-1000 : Int32)]) (st := []) rfl dX3_excess_41 rfl (Nat.le_of_ble_eq_true rfl) V (tw_ki (fun y5 s4 V => ?_))
      refine wq_iret (pc := 44) dX3_excess_44 rfl ⟨_, _, rfl, rfl, V⟩
    · have V := V.2 c
      refine wq_aload_n (pc := 28) dX3_excess_28 rfl rfl ?_
      refine wq_iload_n (pc := 29) dX3_excess_29 rfl rfl ?_
      refine tcq2118 (pc := 30) (As := [.int x1]) (st := []) rfl dX3_excess_30 rfl (Nat.le_of_ble_eq_true rfl) V (tw_ki (fun y7 s6 V => ?_))
      refine wq_goto (pc := 33) (tgt := 44) dX3_excess_33 rfl ?_
      refine wq_iret (pc := 44) dX3_excess_44 rfl ⟨_, _, rfl, rfl, V⟩
  · have V := V.2 c
    refine wq_aload_n (pc := 11) dX3_excess_11 rfl rfl ?_
    refine wq_iconst (pc := 12) dX3_excess_12 csti1 ?_
    refine wq_sipush (pc := 13) dX3_excess_13 cstsm1000 ?_
    refine tcq2091 (pc := 16) (As := [.int (1 : Int32), .int (-1000 : Int32)]) (st := []) rfl dX3_excess_16 rfl (Nat.le_of_ble_eq_true rfl) V (tw_ki (fun y9 s8 V => ?_))
    refine wq_iret (pc := 19) dX3_excess_19 rfl ⟨_, _, rfl, rfl, V⟩
theorem vX3_excessOf_0 {G : wq_G} {l : Launch} {o : Nat} {ad : Nat → Nat} {h : wq_H} {d : Nat} {K : Int32 → tw_S → Prop} (ok : tw_ok G o ad)  {x1 : Int32} {s : tw_S} (V : tw_T G l o ad h d mX3_excessOf (tw_qi G o ad h K) 6 [some (.ref o), some (.int x1), some (.int (-100000 : Int32)), some (.int (0 : Int32)), none, none] [] s) : tw_T G l o ad h d mX3_excessOf (tw_qi G o ad h K) 0 [some (.ref o), some (.int x1), none, none, none, none] [] s := by
  refine wq_ldcw (pc := 0) (v := (-100000 : Int32)) q2122 dX3_excessOf_0 ?_
  refine wq_istore_n (L' := [some (.ref o), some (.int x1), some (.int (-100000 : Int32)), none, none, none]) (pc := 3) dX3_excessOf_3 rfl (Nat.le_of_ble_eq_true rfl) rfl ?_
  refine wq_iconst (pc := 4) dX3_excessOf_4 csti0 ?_
  refine wq_istore_n (L' := [some (.ref o), some (.int x1), some (.int (-100000 : Int32)), some (.int (0 : Int32)), none, none]) (pc := 5) dX3_excessOf_5 rfl (Nat.le_of_ble_eq_true rfl) rfl ?_
  exact V
theorem vX3_excessOf_6 {G : wq_G} {l : Launch} {o : Nat} {ad : Nat → Nat} {h : wq_H} {d : Nat} {K : Int32 → tw_S → Prop} (ok : tw_ok G o ad)  {x1 : Int32} {x2 : Int32} {x3 : Int32} {s : tw_S} (V : tw_ld s 15 (0 : Int32) (fun y1 => (((1 : Int32) <<< (y1 &&& 31)) ≤ x3 → tw_ld s 15 (49 : Int32) (fun y2 => tw_ci G l o ad h d mX3_bits [.int x1] s (fun y4 s3 => K (x2 - (y2 * (y4 - (2 : Int32)))) s3))) ∧ (¬ ((1 : Int32) <<< (y1 &&& 31)) ≤ x3 → (¬ (x3 &&& (x1 ^^^ (-1 : Int32))) = 0 → tw_T G l o ad h d mX3_excessOf (tw_qi G o ad h K) 6 [some (.ref o), some (.int x1), some (.int x2), some (.int (x3 + (1 : Int32))), none, none] [] s) ∧ ((x3 &&& (x1 ^^^ (-1 : Int32))) = 0 → tw_ci G l o ad h d mX3_bits [.int x3] s (fun y6 s5 => (¬ (y6 - y6 / (2 : Int32) * (2 : Int32)) = 0 → tw_T G l o ad h d mX3_excessOf (tw_qi G o ad h K) 44 [some (.ref o), some (.int x1), some (.int x2), some (.int x3), some (.int (0 : Int32)), some (.int (0 : Int32))] [] s5) ∧ ((y6 - y6 / (2 : Int32) * (2 : Int32)) = 0 → tw_T G l o ad h d mX3_excessOf (tw_qi G o ad h K) 6 [some (.ref o), some (.int x1), some (.int x2), some (.int (x3 + (1 : Int32))), none, none] [] s5)))))) : tw_T G l o ad h d mX3_excessOf (tw_qi G o ad h K) 6 [some (.ref o), some (.int x1), some (.int x2), some (.int x3), none, none] [] s := by
  refine wq_iload_n (pc := 6) dX3_excessOf_6 rfl rfl ?_
  refine wq_iconst (pc := 7) dX3_excessOf_7 csti1 ?_
  refine wq_aload_n (pc := 8) dX3_excessOf_8 rfl rfl ?_
  refine tg15 (pc := 9) rfl dX3_excessOf_9 ?_
  refine wq_iconst (pc := 12) dX3_excessOf_12 csti0 ?_
  refine tw_iald' (pc := 13) ok mia15 dX3_excessOf_13 V (fun y1 V => ?_)
  refine wq_ishl (pc := 14) dX3_excessOf_14 ?_
  refine wq_icmp_ge (pc := 15) (tgt := 123) dX3_excessOf_15 rfl (fun c => ?_) (fun c => ?_)
  · have V := V.1 c
    refine wq_iload_n (pc := 123) dX3_excessOf_123 rfl rfl ?_
    refine wq_aload_n (pc := 124) dX3_excessOf_124 rfl rfl ?_
    refine tg15 (pc := 125) rfl dX3_excessOf_125 ?_
    refine wq_bipush (pc := 128) dX3_excessOf_128 cstb49 ?_
    refine tw_iald' (pc := 130) ok mia15 dX3_excessOf_130 V (fun y2 V => ?_)
    refine wq_iload_n (pc := 131) dX3_excessOf_131 rfl rfl ?_
    refine tcq2107 (pc := 132) (As := [.int x1]) (st := [.int y2, .int x2]) rfl dX3_excessOf_132 rfl (Nat.le_of_ble_eq_true rfl) V (tw_ki (fun y4 s3 V => ?_))
    refine wq_iconst (pc := 135) dX3_excessOf_135 csti2 ?_
    refine wq_isub (pc := 136) dX3_excessOf_136 ?_
    refine wq_imul (pc := 137) dX3_excessOf_137 ?_
    refine wq_isub (pc := 138) dX3_excessOf_138 ?_
    refine wq_iret (pc := 139) dX3_excessOf_139 rfl ⟨_, _, rfl, rfl, V⟩
  · have V := V.2 c
    refine wq_iload_n (pc := 18) dX3_excessOf_18 rfl rfl ?_
    refine wq_iload_n (pc := 19) dX3_excessOf_19 rfl rfl ?_
    refine wq_iconst (pc := 20) dX3_excessOf_20 cstim1 ?_
    refine wq_ixor (pc := 21) dX3_excessOf_21 ?_
    refine wq_iand (pc := 22) dX3_excessOf_22 ?_
    refine wq_if_ne (pc := 23) (tgt := 117) dX3_excessOf_23 rfl (fun c => ?_) (fun c => ?_)
    · have V := V.1 c
      refine wq_iinc (L' := [some (.ref o), some (.int x1), some (.int x2), some (.int (x3 + (1 : Int32))), none, none]) (pc := 117) dX3_excessOf_117 rfl (by rw [csti1]) (Nat.le_of_ble_eq_true rfl) rfl ?_
      refine wq_goto (pc := 120) (tgt := 6) dX3_excessOf_120 rfl ?_
      exact V
    · have V := V.2 c
      refine wq_iload_n (pc := 26) dX3_excessOf_26 rfl rfl ?_
      refine tcq2107 (pc := 27) (As := [.int x3]) (st := []) rfl dX3_excessOf_27 rfl (Nat.le_of_ble_eq_true rfl) V (tw_ki (fun y6 s5 V => ?_))
      refine wq_iconst (pc := 30) dX3_excessOf_30 csti2 ?_
      refine wq_irem (pc := 31) dX3_excessOf_31 (by decide) ?_
      refine wq_if_ne (pc := 32) (tgt := 38) dX3_excessOf_32 rfl (fun c => ?_) (fun c => ?_)
      · have V := V.1 c
        refine wq_iconst (pc := 38) dX3_excessOf_38 csti0 ?_
        refine wq_istore (L' := [some (.ref o), some (.int x1), some (.int x2), some (.int x3), some (.int (0 : Int32)), none]) (pc := 39) dX3_excessOf_39 (Nat.le_of_ble_eq_true rfl) rfl ?_
        refine wq_iconst (pc := 41) dX3_excessOf_41 csti0 ?_
        refine wq_istore (L' := [some (.ref o), some (.int x1), some (.int x2), some (.int x3), some (.int (0 : Int32)), some (.int (0 : Int32))]) (pc := 42) dX3_excessOf_42 (Nat.le_of_ble_eq_true rfl) rfl ?_
        exact V
      · have V := V.2 c
        refine wq_goto (pc := 35) (tgt := 117) dX3_excessOf_35 rfl ?_
        refine wq_iinc (L' := [some (.ref o), some (.int x1), some (.int x2), some (.int (x3 + (1 : Int32))), none, none]) (pc := 117) dX3_excessOf_117 rfl (by rw [csti1]) (Nat.le_of_ble_eq_true rfl) rfl ?_
        refine wq_goto (pc := 120) (tgt := 6) dX3_excessOf_120 rfl ?_
        exact V
theorem vX3_excessOf_44 {G : wq_G} {l : Launch} {o : Nat} {ad : Nat → Nat} {h : wq_H} {d : Nat} {K : Int32 → tw_S → Prop} (ok : tw_ok G o ad)  {x1 : Int32} {x2 : Int32} {x3 : Int32} {x4 : Int32} {x5 : Int32} {s : tw_S} (V : tw_ld s 15 (0 : Int32) (fun y1 => (y1 ≤ x5 → (x4 ≤ x2 → tw_T G l o ad h d mX3_excessOf (tw_qi G o ad h K) 6 [some (.ref o), some (.int x1), some (.int x2), some (.int (x3 + (1 : Int32))), none, none] [] s) ∧ (¬ x4 ≤ x2 → tw_T G l o ad h d mX3_excessOf (tw_qi G o ad h K) 6 [some (.ref o), some (.int x1), some (.int x4), some (.int (x3 + (1 : Int32))), none, none] [] s)) ∧ (¬ y1 ≤ x5 → tw_ci G l o ad h d mX3_has [.int x1, .int x5] s (fun y3 s2 => (y3 = 0 → tw_T G l o ad h d mX3_excessOf (tw_qi G o ad h K) 44 [some (.ref o), some (.int x1), some (.int x2), some (.int x3), some (.int (x4 + (0 : Int32))), some (.int (x5 + (1 : Int32)))] [] s2) ∧ (¬ y3 = 0 → tw_ci G l o ad h d mX3_has [.int x3, .int x5] s2 (fun y5 s4 => (y5 = 0 → tw_ci G l o ad h d mX3_sameOf [.ref o, .int x5] s4 (fun y7 s6 => tw_T G l o ad h d mX3_excessOf (tw_qi G o ad h K) 44 [some (.ref o), some (.int x1), some (.int x2), some (.int x3), some (.int (x4 + y7)), some (.int (x5 + (1 : Int32)))] [] s6)) ∧ (¬ y5 = 0 → tw_ci G l o ad h d mX3_sameOf [.ref o, .int x5] s4 (fun y9 s8 => tw_T G l o ad h d mX3_excessOf (tw_qi G o ad h K) 44 [some (.ref o), some (.int x1), some (.int x2), some (.int x3), some (.int (x4 + (-y9))), some (.int (x5 + (1 : Int32)))] [] s8)))))))) : tw_T G l o ad h d mX3_excessOf (tw_qi G o ad h K) 44 [some (.ref o), some (.int x1), some (.int x2), some (.int x3), some (.int x4), some (.int x5)] [] s := by
  refine wq_iload (pc := 44) dX3_excessOf_44 rfl ?_
  refine wq_aload_n (pc := 46) dX3_excessOf_46 rfl rfl ?_
  refine tg15 (pc := 47) rfl dX3_excessOf_47 ?_
  refine wq_iconst (pc := 50) dX3_excessOf_50 csti0 ?_
  refine tw_iald' (pc := 51) ok mia15 dX3_excessOf_51 V (fun y1 V => ?_)
  refine wq_icmp_ge (pc := 52) (tgt := 104) dX3_excessOf_52 rfl (fun c => ?_) (fun c => ?_)
  · have V := V.1 c
    refine wq_iload (pc := 104) dX3_excessOf_104 rfl ?_
    refine wq_iload_n (pc := 106) dX3_excessOf_106 rfl rfl ?_
    refine wq_icmp_le (pc := 107) (tgt := 115) dX3_excessOf_107 rfl (fun c => ?_) (fun c => ?_)
    · have V := V.1 c
      refine wq_iload_n (pc := 115) dX3_excessOf_115 rfl rfl ?_
      refine wq_istore_n (L' := [some (.ref o), some (.int x1), some (.int x2), some (.int x3), some (.int x4), some (.int x5)]) (pc := 116) dX3_excessOf_116 rfl (Nat.le_of_ble_eq_true rfl) rfl ?_
      refine wq_iinc (L' := [some (.ref o), some (.int x1), some (.int x2), some (.int (x3 + (1 : Int32))), some (.int x4), some (.int x5)]) (pc := 117) dX3_excessOf_117 rfl (by rw [csti1]) (Nat.le_of_ble_eq_true rfl) rfl ?_
      refine wq_goto (pc := 120) (tgt := 6) dX3_excessOf_120 rfl ?_
      exact wq_T.less V ⟨rfl, ⟨rfl, ⟨rfl, ⟨rfl, trivial⟩⟩⟩⟩
    · have V := V.2 c
      refine wq_iload (pc := 110) dX3_excessOf_110 rfl ?_
      refine wq_goto (pc := 112) (tgt := 116) dX3_excessOf_112 rfl ?_
      refine wq_istore_n (L' := [some (.ref o), some (.int x1), some (.int x4), some (.int x3), some (.int x4), some (.int x5)]) (pc := 116) dX3_excessOf_116 rfl (Nat.le_of_ble_eq_true rfl) rfl ?_
      refine wq_iinc (L' := [some (.ref o), some (.int x1), some (.int x4), some (.int (x3 + (1 : Int32))), some (.int x4), some (.int x5)]) (pc := 117) dX3_excessOf_117 rfl (by rw [csti1]) (Nat.le_of_ble_eq_true rfl) rfl ?_
      refine wq_goto (pc := 120) (tgt := 6) dX3_excessOf_120 rfl ?_
      exact wq_T.less V ⟨rfl, ⟨rfl, ⟨rfl, ⟨rfl, trivial⟩⟩⟩⟩
  · have V := V.2 c
    refine wq_iload (pc := 55) dX3_excessOf_55 rfl ?_
    refine wq_iload_n (pc := 57) dX3_excessOf_57 rfl rfl ?_
    refine wq_iload (pc := 58) dX3_excessOf_58 rfl ?_
    refine tcq1948 (pc := 60) (As := [.int x1, .int x5]) (st := [.int x4]) rfl dX3_excessOf_60 rfl (Nat.le_of_ble_eq_true rfl) V (tw_ki (fun y3 s2 V => ?_))
    refine wq_if_eq (pc := 63) (tgt := 94) dX3_excessOf_63 rfl (fun c => ?_) (fun c => ?_)
    · have V := V.1 c
      refine wq_iconst (pc := 94) dX3_excessOf_94 csti0 ?_
      refine wq_iadd (pc := 95) dX3_excessOf_95 ?_
      refine wq_istore (L' := [some (.ref o), some (.int x1), some (.int x2), some (.int x3), some (.int (x4 + (0 : Int32))), some (.int x5)]) (pc := 96) dX3_excessOf_96 (Nat.le_of_ble_eq_true rfl) rfl ?_
      refine wq_iinc (L' := [some (.ref o), some (.int x1), some (.int x2), some (.int x3), some (.int (x4 + (0 : Int32))), some (.int (x5 + (1 : Int32)))]) (pc := 98) dX3_excessOf_98 rfl (by rw [csti1]) (Nat.le_of_ble_eq_true rfl) rfl ?_
      refine wq_goto (pc := 101) (tgt := 44) dX3_excessOf_101 rfl ?_
      exact V
    · have V := V.2 c
      refine wq_iload_n (pc := 66) dX3_excessOf_66 rfl rfl ?_
      refine wq_iload (pc := 67) dX3_excessOf_67 rfl ?_
      refine tcq1948 (pc := 69) (As := [.int x3, .int x5]) (st := [.int x4]) rfl dX3_excessOf_69 rfl (Nat.le_of_ble_eq_true rfl) V (tw_ki (fun y5 s4 V => ?_))
      refine wq_if_eq (pc := 72) (tgt := 85) dX3_excessOf_72 rfl (fun c => ?_) (fun c => ?_)
      · have V := V.1 c
        refine wq_aload_n (pc := 85) dX3_excessOf_85 rfl rfl ?_
        refine wq_iload (pc := 86) dX3_excessOf_86 rfl ?_
        refine tcq2087 (pc := 88) (As := [.int x5]) (st := [.int x4]) rfl dX3_excessOf_88 rfl (Nat.le_of_ble_eq_true rfl) V (tw_ki (fun y7 s6 V => ?_))
        refine wq_goto (pc := 91) (tgt := 95) dX3_excessOf_91 rfl ?_
        refine wq_iadd (pc := 95) dX3_excessOf_95 ?_
        refine wq_istore (L' := [some (.ref o), some (.int x1), some (.int x2), some (.int x3), some (.int (x4 + y7)), some (.int x5)]) (pc := 96) dX3_excessOf_96 (Nat.le_of_ble_eq_true rfl) rfl ?_
        refine wq_iinc (L' := [some (.ref o), some (.int x1), some (.int x2), some (.int x3), some (.int (x4 + y7)), some (.int (x5 + (1 : Int32)))]) (pc := 98) dX3_excessOf_98 rfl (by rw [csti1]) (Nat.le_of_ble_eq_true rfl) rfl ?_
        refine wq_goto (pc := 101) (tgt := 44) dX3_excessOf_101 rfl ?_
        exact V
      · have V := V.2 c
        refine wq_aload_n (pc := 75) dX3_excessOf_75 rfl rfl ?_
        refine wq_iload (pc := 76) dX3_excessOf_76 rfl ?_
        refine tcq2087 (pc := 78) (As := [.int x5]) (st := [.int x4]) rfl dX3_excessOf_78 rfl (Nat.le_of_ble_eq_true rfl) V (tw_ki (fun y9 s8 V => ?_))
        refine wq_ineg (pc := 81) dX3_excessOf_81 ?_
        refine wq_goto (pc := 82) (tgt := 95) dX3_excessOf_82 rfl ?_
        refine wq_iadd (pc := 95) dX3_excessOf_95 ?_
        refine wq_istore (L' := [some (.ref o), some (.int x1), some (.int x2), some (.int x3), some (.int (x4 + (-y9))), some (.int x5)]) (pc := 96) dX3_excessOf_96 (Nat.le_of_ble_eq_true rfl) rfl ?_
        refine wq_iinc (L' := [some (.ref o), some (.int x1), some (.int x2), some (.int x3), some (.int (x4 + (-y9))), some (.int (x5 + (1 : Int32)))]) (pc := 98) dX3_excessOf_98 rfl (by rw [csti1]) (Nat.le_of_ble_eq_true rfl) rfl ?_
        refine wq_goto (pc := 101) (tgt := 44) dX3_excessOf_101 rfl ?_
        exact V
theorem vX3_widest_0 {G : wq_G} {l : Launch} {o : Nat} {ad : Nat → Nat} {h : wq_H} {d : Nat} {K : Int32 → tw_S → Prop} (ok : tw_ok G o ad)   {s : tw_S} (V : tw_cv G l o ad h d mX3_good [.ref o] s (fun s1 => (¬ (s1.1 14) = 0 → tw_T G l o ad h d mX3_widest (tw_qi G o ad h K) 24 [some (.ref o), some (.int (-2 : Int32)), some (.int (0 : Int32)), some (.int (0 : Int32)), none] [] s1) ∧ ((s1.1 14) = 0 → tw_ci G l o ad h d mX3_no [.ref o, .int (1 : Int32)] s1 (fun y3 s2 => K y3 s2)))) : tw_T G l o ad h d mX3_widest (tw_qi G o ad h K) 0 [some (.ref o), none, none, none, none] [] s := by
  refine wq_aload_n (pc := 0) dX3_widest_0 rfl rfl ?_
  refine tcq1836 (pc := 1) (As := []) (st := []) rfl dX3_widest_1 rfl (Nat.le_of_ble_eq_true rfl) V (tw_kv (fun s1 V => ?_))
  refine wq_aload_n (pc := 4) dX3_widest_4 rfl rfl ?_
  refine tg14 (pc := 5) rfl dX3_widest_5 ?_
  refine wq_if_ne (pc := 8) (tgt := 17) dX3_widest_8 rfl (fun c => ?_) (fun c => ?_)
  · have V := V.1 c
    refine wq_bipush (pc := 17) dX3_widest_17 cstbm2 ?_
    refine wq_istore_n (L' := [some (.ref o), some (.int (-2 : Int32)), none, none, none]) (pc := 19) dX3_widest_19 rfl (Nat.le_of_ble_eq_true rfl) rfl ?_
    refine wq_iconst (pc := 20) dX3_widest_20 csti0 ?_
    refine wq_istore_n (L' := [some (.ref o), some (.int (-2 : Int32)), some (.int (0 : Int32)), none, none]) (pc := 21) dX3_widest_21 rfl (Nat.le_of_ble_eq_true rfl) rfl ?_
    refine wq_iconst (pc := 22) dX3_widest_22 csti0 ?_
    refine wq_istore_n (L' := [some (.ref o), some (.int (-2 : Int32)), some (.int (0 : Int32)), some (.int (0 : Int32)), none]) (pc := 23) dX3_widest_23 rfl (Nat.le_of_ble_eq_true rfl) rfl ?_
    exact V
  · have V := V.2 c
    refine wq_aload_n (pc := 11) dX3_widest_11 rfl rfl ?_
    refine wq_iconst (pc := 12) dX3_widest_12 csti1 ?_
    refine tcq1843 (pc := 13) (As := [.int (1 : Int32)]) (st := []) rfl dX3_widest_13 rfl (Nat.le_of_ble_eq_true rfl) V (tw_ki (fun y3 s2 V => ?_))
    refine wq_iret (pc := 16) dX3_widest_16 rfl ⟨_, _, rfl, rfl, V⟩
theorem vX3_widest_24 {G : wq_G} {l : Launch} {o : Nat} {ad : Nat → Nat} {h : wq_H} {d : Nat} {K : Int32 → tw_S → Prop} (ok : tw_ok G o ad)  {x1 : Int32} {x2 : Int32} {x3 : Int32} {s : tw_S} (V : tw_ld s 15 (0 : Int32) (fun y1 => (((1 : Int32) <<< (y1 &&& 31)) ≤ x3 → K x1 s) ∧ (¬ ((1 : Int32) <<< (y1 &&& 31)) ≤ x3 → tw_ci G l o ad h d mX3_isCycle [.ref o, .int x3] s (fun y3 s2 => (¬ y3 = 0 → tw_ci G l o ad h d mX3_excessOf [.ref o, .int x3] s2 (fun y5 s4 => (x1 = (-2 : Int32) → tw_T G l o ad h d mX3_widest (tw_qi G o ad h K) 24 [some (.ref o), some (.int x3), some (.int y5), some (.int (x3 + (1 : Int32))), none] [] s4) ∧ (¬ x1 = (-2 : Int32) → (x2 < y5 → tw_T G l o ad h d mX3_widest (tw_qi G o ad h K) 24 [some (.ref o), some (.int x3), some (.int y5), some (.int (x3 + (1 : Int32))), none] [] s4) ∧ (¬ x2 < y5 → tw_T G l o ad h d mX3_widest (tw_qi G o ad h K) 24 [some (.ref o), some (.int x1), some (.int x2), some (.int (x3 + (1 : Int32))), none] [] s4)))) ∧ (y3 = 0 → tw_T G l o ad h d mX3_widest (tw_qi G o ad h K) 24 [some (.ref o), some (.int x1), some (.int x2), some (.int (x3 + (1 : Int32))), none] [] s2))))) : tw_T G l o ad h d mX3_widest (tw_qi G o ad h K) 24 [some (.ref o), some (.int x1), some (.int x2), some (.int x3), none] [] s := by
  refine wq_iload_n (pc := 24) dX3_widest_24 rfl rfl ?_
  refine wq_iconst (pc := 25) dX3_widest_25 csti1 ?_
  refine wq_aload_n (pc := 26) dX3_widest_26 rfl rfl ?_
  refine tg15 (pc := 27) rfl dX3_widest_27 ?_
  refine wq_iconst (pc := 30) dX3_widest_30 csti0 ?_
  refine tw_iald' (pc := 31) ok mia15 dX3_widest_31 V (fun y1 V => ?_)
  refine wq_ishl (pc := 32) dX3_widest_32 ?_
  refine wq_icmp_ge (pc := 33) (tgt := 80) dX3_widest_33 rfl (fun c => ?_) (fun c => ?_)
  · have V := V.1 c
    refine wq_iload_n (pc := 80) dX3_widest_80 rfl rfl ?_
    refine wq_iret (pc := 81) dX3_widest_81 rfl ⟨_, _, rfl, rfl, V⟩
  · have V := V.2 c
    refine wq_aload_n (pc := 36) dX3_widest_36 rfl rfl ?_
    refine wq_iload_n (pc := 37) dX3_widest_37 rfl rfl ?_
    refine tcq2103 (pc := 38) (As := [.int x3]) (st := []) rfl dX3_widest_38 rfl (Nat.le_of_ble_eq_true rfl) V (tw_ki (fun y3 s2 V => ?_))
    refine wq_if_ne (pc := 41) (tgt := 47) dX3_widest_41 rfl (fun c => ?_) (fun c => ?_)
    · have V := V.1 c
      refine wq_aload_n (pc := 47) dX3_widest_47 rfl rfl ?_
      refine wq_iload_n (pc := 48) dX3_widest_48 rfl rfl ?_
      refine tcq2118 (pc := 49) (As := [.int x3]) (st := []) rfl dX3_widest_49 rfl (Nat.le_of_ble_eq_true rfl) V (tw_ki (fun y5 s4 V => ?_))
      refine wq_istore (L' := [some (.ref o), some (.int x1), some (.int x2), some (.int x3), some (.int y5)]) (pc := 52) dX3_widest_52 (Nat.le_of_ble_eq_true rfl) rfl ?_
      refine wq_iload_n (pc := 54) dX3_widest_54 rfl rfl ?_
      refine wq_bipush (pc := 55) dX3_widest_55 cstbm2 ?_
      refine wq_icmp_eq (pc := 57) (tgt := 69) dX3_widest_57 rfl (fun c => ?_) (fun c => ?_)
      · have V := V.1 c
        refine wq_iload_n (pc := 69) dX3_widest_69 rfl rfl ?_
        refine wq_istore_n (L' := [some (.ref o), some (.int x3), some (.int x2), some (.int x3), some (.int y5)]) (pc := 70) dX3_widest_70 rfl (Nat.le_of_ble_eq_true rfl) rfl ?_
        refine wq_iload (pc := 71) dX3_widest_71 rfl ?_
        refine wq_istore_n (L' := [some (.ref o), some (.int x3), some (.int y5), some (.int x3), some (.int y5)]) (pc := 73) dX3_widest_73 rfl (Nat.le_of_ble_eq_true rfl) rfl ?_
        refine wq_iinc (L' := [some (.ref o), some (.int x3), some (.int y5), some (.int (x3 + (1 : Int32))), some (.int y5)]) (pc := 74) dX3_widest_74 rfl (by rw [csti1]) (Nat.le_of_ble_eq_true rfl) rfl ?_
        refine wq_goto (pc := 77) (tgt := 24) dX3_widest_77 rfl ?_
        exact wq_T.less V ⟨rfl, ⟨rfl, ⟨rfl, ⟨rfl, trivial⟩⟩⟩⟩
      · have V := V.2 c
        refine wq_iload (pc := 60) dX3_widest_60 rfl ?_
        refine wq_iload_n (pc := 62) dX3_widest_62 rfl rfl ?_
        refine wq_icmp_gt (pc := 63) (tgt := 69) dX3_widest_63 rfl (fun c => ?_) (fun c => ?_)
        · have V := V.1 c
          refine wq_iload_n (pc := 69) dX3_widest_69 rfl rfl ?_
          refine wq_istore_n (L' := [some (.ref o), some (.int x3), some (.int x2), some (.int x3), some (.int y5)]) (pc := 70) dX3_widest_70 rfl (Nat.le_of_ble_eq_true rfl) rfl ?_
          refine wq_iload (pc := 71) dX3_widest_71 rfl ?_
          refine wq_istore_n (L' := [some (.ref o), some (.int x3), some (.int y5), some (.int x3), some (.int y5)]) (pc := 73) dX3_widest_73 rfl (Nat.le_of_ble_eq_true rfl) rfl ?_
          refine wq_iinc (L' := [some (.ref o), some (.int x3), some (.int y5), some (.int (x3 + (1 : Int32))), some (.int y5)]) (pc := 74) dX3_widest_74 rfl (by rw [csti1]) (Nat.le_of_ble_eq_true rfl) rfl ?_
          refine wq_goto (pc := 77) (tgt := 24) dX3_widest_77 rfl ?_
          exact wq_T.less V ⟨rfl, ⟨rfl, ⟨rfl, ⟨rfl, trivial⟩⟩⟩⟩
        · have V := V.2 c
          refine wq_goto (pc := 66) (tgt := 74) dX3_widest_66 rfl ?_
          refine wq_iinc (L' := [some (.ref o), some (.int x1), some (.int x2), some (.int (x3 + (1 : Int32))), some (.int y5)]) (pc := 74) dX3_widest_74 rfl (by rw [csti1]) (Nat.le_of_ble_eq_true rfl) rfl ?_
          refine wq_goto (pc := 77) (tgt := 24) dX3_widest_77 rfl ?_
          exact wq_T.less V ⟨rfl, ⟨rfl, ⟨rfl, ⟨rfl, trivial⟩⟩⟩⟩
    · have V := V.2 c
      refine wq_goto (pc := 44) (tgt := 74) dX3_widest_44 rfl ?_
      refine wq_iinc (L' := [some (.ref o), some (.int x1), some (.int x2), some (.int (x3 + (1 : Int32))), none]) (pc := 74) dX3_widest_74 rfl (by rw [csti1]) (Nat.le_of_ble_eq_true rfl) rfl ?_
      refine wq_goto (pc := 77) (tgt := 24) dX3_widest_77 rfl ?_
      exact V
theorem vX3_stake_0 {G : wq_G} {l : Launch} {o : Nat} {ad : Nat → Nat} {h : wq_H} {d : Nat} {K : Int32 → tw_S → Prop} (ok : tw_ok G o ad)  {x1 : Int32} {x2 : Int32} {x3 : Int32} {s : tw_S} (V : tw_cv G l o ad h d mX3_good [.ref o] s (fun s1 => tw_ci G l o ad h d mX3_isOutcome [.ref o, .int x1, .int x2] s1 (fun y3 s2 => (¬ y3 = 0 → tw_ci G l o ad h d mX3_within [.int x3, .int (0 : Int32), .int (99 : Int32)] s2 (fun y5 s4 => (¬ y5 = 0 → tw_st s4 17 (((4 : Int32) * x1) + x2) x3 (fun s6 => K (1 : Int32) s6)) ∧ (y5 = 0 → tw_ci G l o ad h d mX3_isNot [.ref o, .int (2 : Int32)] s4 (fun y8 s7 => (y8 = 0 ∨ y8 = 1) ∧ K y8 s7)))) ∧ (y3 = 0 → tw_ci G l o ad h d mX3_isNot [.ref o, .int (1 : Int32)] s2 (fun y10 s9 => (y10 = 0 ∨ y10 = 1) ∧ K y10 s9))))) : tw_T G l o ad h d mX3_stake (tw_qi G o ad h K) 0 [some (.ref o), some (.int x1), some (.int x2), some (.int x3)] [] s := by
  refine wq_aload_n (pc := 0) dX3_stake_0 rfl rfl ?_
  refine tcq1836 (pc := 1) (As := []) (st := []) rfl dX3_stake_1 rfl (Nat.le_of_ble_eq_true rfl) V (tw_kv (fun s1 V => ?_))
  refine wq_aload_n (pc := 4) dX3_stake_4 rfl rfl ?_
  refine wq_iload_n (pc := 5) dX3_stake_5 rfl rfl ?_
  refine wq_iload_n (pc := 6) dX3_stake_6 rfl rfl ?_
  refine tcq2043 (pc := 7) (As := [.int x1, .int x2]) (st := []) rfl dX3_stake_7 rfl (Nat.le_of_ble_eq_true rfl) V (tw_ki (fun y3 s2 V => ?_))
  refine wq_if_ne (pc := 10) (tgt := 19) dX3_stake_10 rfl (fun c => ?_) (fun c => ?_)
  · have V := V.1 c
    refine wq_iload_n (pc := 19) dX3_stake_19 rfl rfl ?_
    refine wq_iconst (pc := 20) dX3_stake_20 csti0 ?_
    refine wq_bipush (pc := 21) dX3_stake_21 cstb99 ?_
    refine tcq1840 (pc := 23) (As := [.int x3, .int (0 : Int32), .int (99 : Int32)]) (st := []) rfl dX3_stake_23 rfl (Nat.le_of_ble_eq_true rfl) V (tw_ki (fun y5 s4 V => ?_))
    refine wq_if_ne (pc := 26) (tgt := 35) dX3_stake_26 rfl (fun c => ?_) (fun c => ?_)
    · have V := V.1 c
      refine wq_aload_n (pc := 35) dX3_stake_35 rfl rfl ?_
      refine tg17 (pc := 36) rfl dX3_stake_36 ?_
      refine wq_iconst (pc := 39) dX3_stake_39 csti4 ?_
      refine wq_iload_n (pc := 40) dX3_stake_40 rfl rfl ?_
      refine wq_imul (pc := 41) dX3_stake_41 ?_
      refine wq_iload_n (pc := 42) dX3_stake_42 rfl rfl ?_
      refine wq_iadd (pc := 43) dX3_stake_43 ?_
      refine wq_iload_n (pc := 44) dX3_stake_44 rfl rfl ?_
      refine tw_iast' (pc := 45) ok mia17 dX3_stake_45 V (fun s6 V => ?_)
      refine wq_iconst (pc := 46) dX3_stake_46 csti1 ?_
      refine wq_zret (pc := 47) dX3_stake_47 rfl tw_nb1 ⟨_, _, rfl, rfl, V⟩
    · have V := V.2 c
      refine wq_aload_n (pc := 29) dX3_stake_29 rfl rfl ?_
      refine wq_iconst (pc := 30) dX3_stake_30 csti2 ?_
      refine tcq2131 (pc := 31) (As := [.int (2 : Int32)]) (st := []) rfl dX3_stake_31 rfl (Nat.le_of_ble_eq_true rfl) V (tw_ki (fun y8 s7 V => ?_))
      refine wq_zret (pc := 34) dX3_stake_34 rfl (tw_z V.1).1 ⟨_, _, rfl, rfl, V.2⟩
  · have V := V.2 c
    refine wq_aload_n (pc := 13) dX3_stake_13 rfl rfl ?_
    refine wq_iconst (pc := 14) dX3_stake_14 csti1 ?_
    refine tcq2131 (pc := 15) (As := [.int (1 : Int32)]) (st := []) rfl dX3_stake_15 rfl (Nat.le_of_ble_eq_true rfl) V (tw_ki (fun y10 s9 V => ?_))
    refine wq_zret (pc := 18) dX3_stake_18 rfl (tw_z V.1).1 ⟨_, _, rfl, rfl, V.2⟩
theorem vX3_isNot_0 {G : wq_G} {l : Launch} {o : Nat} {ad : Nat → Nat} {h : wq_H} {d : Nat} {K : Int32 → tw_S → Prop} (ok : tw_ok G o ad)  {x1 : Int32} {s : tw_S} (V : tw_pt s 11 x1 (fun s1 => K (0 : Int32) s1)) : tw_T G l o ad h d mX3_isNot (tw_qi G o ad h K) 0 [some (.ref o), some (.int x1)] [] s := by
  refine wq_aload_n (pc := 0) dX3_isNot_0 rfl rfl ?_
  refine wq_iload_n (pc := 1) dX3_isNot_1 rfl rfl ?_
  refine tp11 (pc := 2) rfl ok dX3_isNot_2 V (fun s1 V => ?_)
  refine wq_iconst (pc := 5) dX3_isNot_5 csti0 ?_
  refine wq_zret (pc := 6) dX3_isNot_6 rfl tw_nb0 ⟨_, _, rfl, rfl, V⟩
theorem vX3_wins_0 {G : wq_G} {l : Launch} {o : Nat} {ad : Nat → Nat} {h : wq_H} {d : Nat} {K : Int32 → tw_S → Prop} (ok : tw_ok G o ad)   {s : tw_S} (V : tw_cv G l o ad h d mX3_good [.ref o] s (fun s1 => ((s1.1 14) = 0 → tw_ci G l o ad h d mX3_no [.ref o, .int (1 : Int32)] s1 (fun y3 s2 => K y3 s2)) ∧ (¬ (s1.1 14) = 0 → tw_ci G l o ad h d mX3_winsOf [.ref o] s1 (fun y5 s4 => K y5 s4)))) : tw_T G l o ad h d mX3_wins (tw_qi G o ad h K) 0 [some (.ref o)] [] s := by
  refine wq_aload_n (pc := 0) dX3_wins_0 rfl rfl ?_
  refine tcq1836 (pc := 1) (As := []) (st := []) rfl dX3_wins_1 rfl (Nat.le_of_ble_eq_true rfl) V (tw_kv (fun s1 V => ?_))
  refine wq_aload_n (pc := 4) dX3_wins_4 rfl rfl ?_
  refine tg14 (pc := 5) rfl dX3_wins_5 ?_
  refine wq_if_eq (pc := 8) (tgt := 18) dX3_wins_8 rfl (fun c => ?_) (fun c => ?_)
  · have V := V.1 c
    refine wq_aload_n (pc := 18) dX3_wins_18 rfl rfl ?_
    refine wq_iconst (pc := 19) dX3_wins_19 csti1 ?_
    refine tcq1843 (pc := 20) (As := [.int (1 : Int32)]) (st := []) rfl dX3_wins_20 rfl (Nat.le_of_ble_eq_true rfl) V (tw_ki (fun y3 s2 V => ?_))
    refine wq_iret (pc := 23) dX3_wins_23 rfl ⟨_, _, rfl, rfl, V⟩
  · have V := V.2 c
    refine wq_aload_n (pc := 11) dX3_wins_11 rfl rfl ?_
    refine tcq2139 (pc := 12) (As := []) (st := []) rfl dX3_wins_12 rfl (Nat.le_of_ble_eq_true rfl) V (tw_ki (fun y5 s4 V => ?_))
    refine wq_goto (pc := 15) (tgt := 23) dX3_wins_15 rfl ?_
    refine wq_iret (pc := 23) dX3_wins_23 rfl ⟨_, _, rfl, rfl, V⟩
theorem vX3_winsOf_0 {G : wq_G} {l : Launch} {o : Nat} {ad : Nat → Nat} {h : wq_H} {d : Nat} {K : Int32 → tw_S → Prop} (ok : tw_ok G o ad)   {s : tw_S} (V : tw_T G l o ad h d mX3_winsOf (tw_qi G o ad h K) 4 [some (.ref o), some (.int (0 : Int32)), some (.int (0 : Int32)), none] [] s) : tw_T G l o ad h d mX3_winsOf (tw_qi G o ad h K) 0 [some (.ref o), none, none, none] [] s := by
  refine wq_iconst (pc := 0) dX3_winsOf_0 csti0 ?_
  refine wq_istore_n (L' := [some (.ref o), some (.int (0 : Int32)), none, none]) (pc := 1) dX3_winsOf_1 rfl (Nat.le_of_ble_eq_true rfl) rfl ?_
  refine wq_iconst (pc := 2) dX3_winsOf_2 csti0 ?_
  refine wq_istore_n (L' := [some (.ref o), some (.int (0 : Int32)), some (.int (0 : Int32)), none]) (pc := 3) dX3_winsOf_3 rfl (Nat.le_of_ble_eq_true rfl) rfl ?_
  exact V
theorem vX3_winsOf_4 {G : wq_G} {l : Launch} {o : Nat} {ad : Nat → Nat} {h : wq_H} {d : Nat} {K : Int32 → tw_S → Prop} (ok : tw_ok G o ad)  {x1 : Int32} {x2 : Int32} {s : tw_S} (V : tw_ld s 15 (0 : Int32) (fun y1 => (y1 ≤ x2 → K x1 s) ∧ (¬ y1 ≤ x2 → tw_T G l o ad h d mX3_winsOf (tw_qi G o ad h K) 16 [some (.ref o), some (.int x1), some (.int x2), some (.int (0 : Int32))] [] s))) : tw_T G l o ad h d mX3_winsOf (tw_qi G o ad h K) 4 [some (.ref o), some (.int x1), some (.int x2), none] [] s := by
  refine wq_iload_n (pc := 4) dX3_winsOf_4 rfl rfl ?_
  refine wq_aload_n (pc := 5) dX3_winsOf_5 rfl rfl ?_
  refine tg15 (pc := 6) rfl dX3_winsOf_6 ?_
  refine wq_iconst (pc := 9) dX3_winsOf_9 csti0 ?_
  refine tw_iald' (pc := 10) ok mia15 dX3_winsOf_10 V (fun y1 V => ?_)
  refine wq_icmp_ge (pc := 11) (tgt := 67) dX3_winsOf_11 rfl (fun c => ?_) (fun c => ?_)
  · have V := V.1 c
    refine wq_iload_n (pc := 67) dX3_winsOf_67 rfl rfl ?_
    refine wq_iret (pc := 68) dX3_winsOf_68 rfl ⟨_, _, rfl, rfl, V⟩
  · have V := V.2 c
    refine wq_iconst (pc := 14) dX3_winsOf_14 csti0 ?_
    refine wq_istore_n (L' := [some (.ref o), some (.int x1), some (.int x2), some (.int (0 : Int32))]) (pc := 15) dX3_winsOf_15 rfl (Nat.le_of_ble_eq_true rfl) rfl ?_
    exact V
theorem vX3_winsOf_16 {G : wq_G} {l : Launch} {o : Nat} {ad : Nat → Nat} {h : wq_H} {d : Nat} {K : Int32 → tw_S → Prop} (ok : tw_ok G o ad)  {x1 : Int32} {x2 : Int32} {x3 : Int32} {s : tw_S} (V : tw_ci G l o ad h d mX3_outcomes [.ref (ad 15), .int x2] s (fun y2 s1 => (y2 ≤ x3 → tw_T G l o ad h d mX3_winsOf (tw_qi G o ad h K) 4 [some (.ref o), some (.int x1), some (.int (x2 + (1 : Int32))), none] [] s1) ∧ (¬ y2 ≤ x3 → tw_ld s1 17 (((4 : Int32) * x2) + x3) (fun y3 => tw_ld s1 15 (((17 : Int32) + ((4 : Int32) * x2)) + x3) (fun y4 => tw_T G l o ad h d mX3_winsOf (tw_qi G o ad h K) 16 [some (.ref o), some (.int (x1 + (y3 * y4))), some (.int x2), some (.int (x3 + (1 : Int32)))] [] s1))))) : tw_T G l o ad h d mX3_winsOf (tw_qi G o ad h K) 16 [some (.ref o), some (.int x1), some (.int x2), some (.int x3)] [] s := by
  refine wq_iload_n (pc := 16) dX3_winsOf_16 rfl rfl ?_
  refine wq_aload_n (pc := 17) dX3_winsOf_17 rfl rfl ?_
  refine tg15 (pc := 18) rfl dX3_winsOf_18 ?_
  refine wq_iload_n (pc := 21) dX3_winsOf_21 rfl rfl ?_
  refine tcq1999 (pc := 22) (As := [.ref (ad 15), .int x2]) (st := [.int x3]) rfl dX3_winsOf_22 rfl (Nat.le_of_ble_eq_true rfl) V (tw_ki (fun y2 s1 V => ?_))
  refine wq_icmp_ge (pc := 25) (tgt := 61) dX3_winsOf_25 rfl (fun c => ?_) (fun c => ?_)
  · have V := V.1 c
    refine wq_iinc (L' := [some (.ref o), some (.int x1), some (.int (x2 + (1 : Int32))), some (.int x3)]) (pc := 61) dX3_winsOf_61 rfl (by rw [csti1]) (Nat.le_of_ble_eq_true rfl) rfl ?_
    refine wq_goto (pc := 64) (tgt := 4) dX3_winsOf_64 rfl ?_
    exact wq_T.less V ⟨rfl, ⟨rfl, ⟨rfl, trivial⟩⟩⟩
  · have V := V.2 c
    refine wq_iload_n (pc := 28) dX3_winsOf_28 rfl rfl ?_
    refine wq_aload_n (pc := 29) dX3_winsOf_29 rfl rfl ?_
    refine tg17 (pc := 30) rfl dX3_winsOf_30 ?_
    refine wq_iconst (pc := 33) dX3_winsOf_33 csti4 ?_
    refine wq_iload_n (pc := 34) dX3_winsOf_34 rfl rfl ?_
    refine wq_imul (pc := 35) dX3_winsOf_35 ?_
    refine wq_iload_n (pc := 36) dX3_winsOf_36 rfl rfl ?_
    refine wq_iadd (pc := 37) dX3_winsOf_37 ?_
    refine tw_iald' (pc := 38) ok mia17 dX3_winsOf_38 V (fun y3 V => ?_)
    refine wq_aload_n (pc := 39) dX3_winsOf_39 rfl rfl ?_
    refine tg15 (pc := 40) rfl dX3_winsOf_40 ?_
    refine wq_bipush (pc := 43) dX3_winsOf_43 cstb17 ?_
    refine wq_iconst (pc := 45) dX3_winsOf_45 csti4 ?_
    refine wq_iload_n (pc := 46) dX3_winsOf_46 rfl rfl ?_
    refine wq_imul (pc := 47) dX3_winsOf_47 ?_
    refine wq_iadd (pc := 48) dX3_winsOf_48 ?_
    refine wq_iload_n (pc := 49) dX3_winsOf_49 rfl rfl ?_
    refine wq_iadd (pc := 50) dX3_winsOf_50 ?_
    refine tw_iald' (pc := 51) ok mia15 dX3_winsOf_51 V (fun y4 V => ?_)
    refine wq_imul (pc := 52) dX3_winsOf_52 ?_
    refine wq_iadd (pc := 53) dX3_winsOf_53 ?_
    refine wq_istore_n (L' := [some (.ref o), some (.int (x1 + (y3 * y4))), some (.int x2), some (.int x3)]) (pc := 54) dX3_winsOf_54 rfl (Nat.le_of_ble_eq_true rfl) rfl ?_
    refine wq_iinc (L' := [some (.ref o), some (.int (x1 + (y3 * y4))), some (.int x2), some (.int (x3 + (1 : Int32)))]) (pc := 55) dX3_winsOf_55 rfl (by rw [csti1]) (Nat.le_of_ble_eq_true rfl) rfl ?_
    refine wq_goto (pc := 58) (tgt := 16) dX3_winsOf_58 rfl ?_
    exact V
theorem vX3_worst_0 {G : wq_G} {l : Launch} {o : Nat} {ad : Nat → Nat} {h : wq_H} {d : Nat} {K : Int32 → tw_S → Prop} (ok : tw_ok G o ad)   {s : tw_S} (V : tw_cv G l o ad h d mX3_good [.ref o] s (fun s1 => ((s1.1 14) = 0 → tw_ci G l o ad h d mX3_no [.ref o, .int (1 : Int32)] s1 (fun y3 s2 => K y3 s2)) ∧ (¬ (s1.1 14) = 0 → tw_ci G l o ad h d mX3_worstHidden [.ref o] s1 (fun y5 s4 => tw_ci G l o ad h d mX3_paid [.ref o, .int y5] s4 (fun y7 s6 => K y7 s6))))) : tw_T G l o ad h d mX3_worst (tw_qi G o ad h K) 0 [some (.ref o)] [] s := by
  refine wq_aload_n (pc := 0) dX3_worst_0 rfl rfl ?_
  refine tcq1836 (pc := 1) (As := []) (st := []) rfl dX3_worst_1 rfl (Nat.le_of_ble_eq_true rfl) V (tw_kv (fun s1 V => ?_))
  refine wq_aload_n (pc := 4) dX3_worst_4 rfl rfl ?_
  refine tg14 (pc := 5) rfl dX3_worst_5 ?_
  refine wq_if_eq (pc := 8) (tgt := 22) dX3_worst_8 rfl (fun c => ?_) (fun c => ?_)
  · have V := V.1 c
    refine wq_aload_n (pc := 22) dX3_worst_22 rfl rfl ?_
    refine wq_iconst (pc := 23) dX3_worst_23 csti1 ?_
    refine tcq1843 (pc := 24) (As := [.int (1 : Int32)]) (st := []) rfl dX3_worst_24 rfl (Nat.le_of_ble_eq_true rfl) V (tw_ki (fun y3 s2 V => ?_))
    refine wq_iret (pc := 27) dX3_worst_27 rfl ⟨_, _, rfl, rfl, V⟩
  · have V := V.2 c
    refine wq_aload_n (pc := 11) dX3_worst_11 rfl rfl ?_
    refine wq_aload_n (pc := 12) dX3_worst_12 rfl rfl ?_
    refine tcq2147 (pc := 13) (As := []) (st := [.ref o]) rfl dX3_worst_13 rfl (Nat.le_of_ble_eq_true rfl) V (tw_ki (fun y5 s4 V => ?_))
    refine tcq2151 (pc := 16) (As := [.int y5]) (st := []) rfl dX3_worst_16 rfl (Nat.le_of_ble_eq_true rfl) V (tw_ki (fun y7 s6 V => ?_))
    refine wq_goto (pc := 19) (tgt := 27) dX3_worst_19 rfl ?_
    refine wq_iret (pc := 27) dX3_worst_27 rfl ⟨_, _, rfl, rfl, V⟩
theorem vX3_worstHidden_0 {G : wq_G} {l : Launch} {o : Nat} {ad : Nat → Nat} {h : wq_H} {d : Nat} {K : Int32 → tw_S → Prop} (ok : tw_ok G o ad)   {s : tw_S} (V : tw_T G l o ad h d mX3_worstHidden (tw_qi G o ad h K) 4 [some (.ref o), some (.int (0 : Int32)), some (.int (1 : Int32))] [] s) : tw_T G l o ad h d mX3_worstHidden (tw_qi G o ad h K) 0 [some (.ref o), none, none] [] s := by
  refine wq_iconst (pc := 0) dX3_worstHidden_0 csti0 ?_
  refine wq_istore_n (L' := [some (.ref o), some (.int (0 : Int32)), none]) (pc := 1) dX3_worstHidden_1 rfl (Nat.le_of_ble_eq_true rfl) rfl ?_
  refine wq_iconst (pc := 2) dX3_worstHidden_2 csti1 ?_
  refine wq_istore_n (L' := [some (.ref o), some (.int (0 : Int32)), some (.int (1 : Int32))]) (pc := 3) dX3_worstHidden_3 rfl (Nat.le_of_ble_eq_true rfl) rfl ?_
  exact V
theorem vX3_worstHidden_4 {G : wq_G} {l : Launch} {o : Nat} {ad : Nat → Nat} {h : wq_H} {d : Nat} {K : Int32 → tw_S → Prop} (ok : tw_ok G o ad)  {x1 : Int32} {x2 : Int32} {s : tw_S} (V : tw_ci G l o ad h d mX3_hiddenMany [.ref o] s (fun y2 s1 => (y2 ≤ x2 → K x1 s1) ∧ (¬ y2 ≤ x2 → tw_ci G l o ad h d mX3_paid [.ref o, .int x2] s1 (fun y4 s3 => tw_ci G l o ad h d mX3_paid [.ref o, .int x1] s3 (fun y6 s5 => (y6 ≤ y4 → tw_T G l o ad h d mX3_worstHidden (tw_qi G o ad h K) 4 [some (.ref o), some (.int x1), some (.int (x2 + (1 : Int32)))] [] s5) ∧ (¬ y6 ≤ y4 → tw_T G l o ad h d mX3_worstHidden (tw_qi G o ad h K) 4 [some (.ref o), some (.int x2), some (.int (x2 + (1 : Int32)))] [] s5)))))) : tw_T G l o ad h d mX3_worstHidden (tw_qi G o ad h K) 4 [some (.ref o), some (.int x1), some (.int x2)] [] s := by
  refine wq_iload_n (pc := 4) dX3_worstHidden_4 rfl rfl ?_
  refine wq_aload_n (pc := 5) dX3_worstHidden_5 rfl rfl ?_
  refine tcq1995 (pc := 6) (As := []) (st := [.int x2]) rfl dX3_worstHidden_6 rfl (Nat.le_of_ble_eq_true rfl) V (tw_ki (fun y2 s1 V => ?_))
  refine wq_icmp_ge (pc := 9) (tgt := 37) dX3_worstHidden_9 rfl (fun c => ?_) (fun c => ?_)
  · have V := V.1 c
    refine wq_iload_n (pc := 37) dX3_worstHidden_37 rfl rfl ?_
    refine wq_iret (pc := 38) dX3_worstHidden_38 rfl ⟨_, _, rfl, rfl, V⟩
  · have V := V.2 c
    refine wq_aload_n (pc := 12) dX3_worstHidden_12 rfl rfl ?_
    refine wq_iload_n (pc := 13) dX3_worstHidden_13 rfl rfl ?_
    refine tcq2151 (pc := 14) (As := [.int x2]) (st := []) rfl dX3_worstHidden_14 rfl (Nat.le_of_ble_eq_true rfl) V (tw_ki (fun y4 s3 V => ?_))
    refine wq_aload_n (pc := 17) dX3_worstHidden_17 rfl rfl ?_
    refine wq_iload_n (pc := 18) dX3_worstHidden_18 rfl rfl ?_
    refine tcq2151 (pc := 19) (As := [.int x1]) (st := [.int y4]) rfl dX3_worstHidden_19 rfl (Nat.le_of_ble_eq_true rfl) V (tw_ki (fun y6 s5 V => ?_))
    refine wq_icmp_ge (pc := 22) (tgt := 29) dX3_worstHidden_22 rfl (fun c => ?_) (fun c => ?_)
    · have V := V.1 c
      refine wq_iload_n (pc := 29) dX3_worstHidden_29 rfl rfl ?_
      refine wq_istore_n (L' := [some (.ref o), some (.int x1), some (.int x2)]) (pc := 30) dX3_worstHidden_30 rfl (Nat.le_of_ble_eq_true rfl) rfl ?_
      refine wq_iinc (L' := [some (.ref o), some (.int x1), some (.int (x2 + (1 : Int32)))]) (pc := 31) dX3_worstHidden_31 rfl (by rw [csti1]) (Nat.le_of_ble_eq_true rfl) rfl ?_
      refine wq_goto (pc := 34) (tgt := 4) dX3_worstHidden_34 rfl ?_
      exact V
    · have V := V.2 c
      refine wq_iload_n (pc := 25) dX3_worstHidden_25 rfl rfl ?_
      refine wq_goto (pc := 26) (tgt := 30) dX3_worstHidden_26 rfl ?_
      refine wq_istore_n (L' := [some (.ref o), some (.int x2), some (.int x2)]) (pc := 30) dX3_worstHidden_30 rfl (Nat.le_of_ble_eq_true rfl) rfl ?_
      refine wq_iinc (L' := [some (.ref o), some (.int x2), some (.int (x2 + (1 : Int32)))]) (pc := 31) dX3_worstHidden_31 rfl (by rw [csti1]) (Nat.le_of_ble_eq_true rfl) rfl ?_
      refine wq_goto (pc := 34) (tgt := 4) dX3_worstHidden_34 rfl ?_
      exact V
theorem vX3_paid_0 {G : wq_G} {l : Launch} {o : Nat} {ad : Nat → Nat} {h : wq_H} {d : Nat} {K : Int32 → tw_S → Prop} (ok : tw_ok G o ad)  {x1 : Int32} {s : tw_S} (V : tw_T G l o ad h d mX3_paid (tw_qi G o ad h K) 4 [some (.ref o), some (.int x1), some (.int (0 : Int32)), some (.int (0 : Int32))] [] s) : tw_T G l o ad h d mX3_paid (tw_qi G o ad h K) 0 [some (.ref o), some (.int x1), none, none] [] s := by
  refine wq_iconst (pc := 0) dX3_paid_0 csti0 ?_
  refine wq_istore_n (L' := [some (.ref o), some (.int x1), some (.int (0 : Int32)), none]) (pc := 1) dX3_paid_1 rfl (Nat.le_of_ble_eq_true rfl) rfl ?_
  refine wq_iconst (pc := 2) dX3_paid_2 csti0 ?_
  refine wq_istore_n (L' := [some (.ref o), some (.int x1), some (.int (0 : Int32)), some (.int (0 : Int32))]) (pc := 3) dX3_paid_3 rfl (Nat.le_of_ble_eq_true rfl) rfl ?_
  exact V
theorem vX3_paid_4 {G : wq_G} {l : Launch} {o : Nat} {ad : Nat → Nat} {h : wq_H} {d : Nat} {K : Int32 → tw_S → Prop} (ok : tw_ok G o ad)  {x1 : Int32} {x2 : Int32} {x3 : Int32} {s : tw_S} (V : tw_ld s 15 (0 : Int32) (fun y1 => (y1 ≤ x3 → K x2 s) ∧ (¬ y1 ≤ x3 → tw_ci G l o ad h d mX3_fitted [.ref o, .int x3, .int x1] s (fun y3 s2 => tw_ld s2 17 (((4 : Int32) * x3) + y3) (fun y4 => tw_T G l o ad h d mX3_paid (tw_qi G o ad h K) 4 [some (.ref o), some (.int x1), some (.int (x2 + y4)), some (.int (x3 + (1 : Int32)))] [] s2))))) : tw_T G l o ad h d mX3_paid (tw_qi G o ad h K) 4 [some (.ref o), some (.int x1), some (.int x2), some (.int x3)] [] s := by
  refine wq_iload_n (pc := 4) dX3_paid_4 rfl rfl ?_
  refine wq_aload_n (pc := 5) dX3_paid_5 rfl rfl ?_
  refine tg15 (pc := 6) rfl dX3_paid_6 ?_
  refine wq_iconst (pc := 9) dX3_paid_9 csti0 ?_
  refine tw_iald' (pc := 10) ok mia15 dX3_paid_10 V (fun y1 V => ?_)
  refine wq_icmp_ge (pc := 11) (tgt := 38) dX3_paid_11 rfl (fun c => ?_) (fun c => ?_)
  · have V := V.1 c
    refine wq_iload_n (pc := 38) dX3_paid_38 rfl rfl ?_
    refine wq_iret (pc := 39) dX3_paid_39 rfl ⟨_, _, rfl, rfl, V⟩
  · have V := V.2 c
    refine wq_iload_n (pc := 14) dX3_paid_14 rfl rfl ?_
    refine wq_aload_n (pc := 15) dX3_paid_15 rfl rfl ?_
    refine tg17 (pc := 16) rfl dX3_paid_16 ?_
    refine wq_iconst (pc := 19) dX3_paid_19 csti4 ?_
    refine wq_iload_n (pc := 20) dX3_paid_20 rfl rfl ?_
    refine wq_imul (pc := 21) dX3_paid_21 ?_
    refine wq_aload_n (pc := 22) dX3_paid_22 rfl rfl ?_
    refine wq_iload_n (pc := 23) dX3_paid_23 rfl rfl ?_
    refine wq_iload_n (pc := 24) dX3_paid_24 rfl rfl ?_
    refine tcq2005 (pc := 25) (As := [.int x3, .int x1]) (st := [.int ((4 : Int32) * x3), .ref (ad 17), .int x2]) rfl dX3_paid_25 rfl (Nat.le_of_ble_eq_true rfl) V (tw_ki (fun y3 s2 V => ?_))
    refine wq_iadd (pc := 28) dX3_paid_28 ?_
    refine tw_iald' (pc := 29) ok mia17 dX3_paid_29 V (fun y4 V => ?_)
    refine wq_iadd (pc := 30) dX3_paid_30 ?_
    refine wq_istore_n (L' := [some (.ref o), some (.int x1), some (.int (x2 + y4)), some (.int x3)]) (pc := 31) dX3_paid_31 rfl (Nat.le_of_ble_eq_true rfl) rfl ?_
    refine wq_iinc (L' := [some (.ref o), some (.int x1), some (.int (x2 + y4)), some (.int (x3 + (1 : Int32)))]) (pc := 32) dX3_paid_32 rfl (by rw [csti1]) (Nat.le_of_ble_eq_true rfl) rfl ?_
    refine wq_goto (pc := 35) (tgt := 4) dX3_paid_35 rfl ?_
    exact V
theorem vX3_worstAt_0 {G : wq_G} {l : Launch} {o : Nat} {ad : Nat → Nat} {h : wq_H} {d : Nat} {K : Int32 → tw_S → Prop} (ok : tw_ok G o ad)   {s : tw_S} (V : tw_cv G l o ad h d mX3_good [.ref o] s (fun s1 => ((s1.1 14) = 0 → tw_ci G l o ad h d mX3_no [.ref o, .int (1 : Int32)] s1 (fun y3 s2 => K y3 s2)) ∧ (¬ (s1.1 14) = 0 → tw_ci G l o ad h d mX3_worstHidden [.ref o] s1 (fun y5 s4 => K y5 s4)))) : tw_T G l o ad h d mX3_worstAt (tw_qi G o ad h K) 0 [some (.ref o)] [] s := by
  refine wq_aload_n (pc := 0) dX3_worstAt_0 rfl rfl ?_
  refine tcq1836 (pc := 1) (As := []) (st := []) rfl dX3_worstAt_1 rfl (Nat.le_of_ble_eq_true rfl) V (tw_kv (fun s1 V => ?_))
  refine wq_aload_n (pc := 4) dX3_worstAt_4 rfl rfl ?_
  refine tg14 (pc := 5) rfl dX3_worstAt_5 ?_
  refine wq_if_eq (pc := 8) (tgt := 18) dX3_worstAt_8 rfl (fun c => ?_) (fun c => ?_)
  · have V := V.1 c
    refine wq_aload_n (pc := 18) dX3_worstAt_18 rfl rfl ?_
    refine wq_iconst (pc := 19) dX3_worstAt_19 csti1 ?_
    refine tcq1843 (pc := 20) (As := [.int (1 : Int32)]) (st := []) rfl dX3_worstAt_20 rfl (Nat.le_of_ble_eq_true rfl) V (tw_ki (fun y3 s2 V => ?_))
    refine wq_iret (pc := 23) dX3_worstAt_23 rfl ⟨_, _, rfl, rfl, V⟩
  · have V := V.2 c
    refine wq_aload_n (pc := 11) dX3_worstAt_11 rfl rfl ?_
    refine tcq2147 (pc := 12) (As := []) (st := []) rfl dX3_worstAt_12 rfl (Nat.le_of_ble_eq_true rfl) V (tw_ki (fun y5 s4 V => ?_))
    refine wq_goto (pc := 15) (tgt := 23) dX3_worstAt_15 rfl ?_
    refine wq_iret (pc := 23) dX3_worstAt_23 rfl ⟨_, _, rfl, rfl, V⟩
theorem vX3_bars_0 {G : wq_G} {l : Launch} {o : Nat} {ad : Nat → Nat} {h : wq_H} {d : Nat} {K : Int32 → tw_S → Prop} (ok : tw_ok G o ad)   {s : tw_S} (V : tw_cv G l o ad h d mX3_good [.ref o] s (fun s1 => ((s1.1 14) = 0 → tw_ci G l o ad h d mX3_no [.ref o, .int (1 : Int32)] s1 (fun y3 s2 => K y3 s2)) ∧ (¬ (s1.1 14) = 0 → tw_ci G l o ad h d mX3_winsOf [.ref o] s1 (fun y5 s4 => tw_ci G l o ad h d mX3_worstHidden [.ref o] s4 (fun y7 s6 => tw_ci G l o ad h d mX3_paid [.ref o, .int y7] s6 (fun y9 s8 => tw_ld s8 15 (49 : Int32) (fun y10 => ((y9 * y10) ≤ y5 → K (0 : Int32) s8) ∧ (¬ (y9 * y10) ≤ y5 → K (1 : Int32) s8)))))))) : tw_T G l o ad h d mX3_bars (tw_qi G o ad h K) 0 [some (.ref o)] [] s := by
  refine wq_aload_n (pc := 0) dX3_bars_0 rfl rfl ?_
  refine tcq1836 (pc := 1) (As := []) (st := []) rfl dX3_bars_1 rfl (Nat.le_of_ble_eq_true rfl) V (tw_kv (fun s1 V => ?_))
  refine wq_aload_n (pc := 4) dX3_bars_4 rfl rfl ?_
  refine tg14 (pc := 5) rfl dX3_bars_5 ?_
  refine wq_if_eq (pc := 8) (tgt := 42) dX3_bars_8 rfl (fun c => ?_) (fun c => ?_)
  · have V := V.1 c
    refine wq_aload_n (pc := 42) dX3_bars_42 rfl rfl ?_
    refine wq_iconst (pc := 43) dX3_bars_43 csti1 ?_
    refine tcq1843 (pc := 44) (As := [.int (1 : Int32)]) (st := []) rfl dX3_bars_44 rfl (Nat.le_of_ble_eq_true rfl) V (tw_ki (fun y3 s2 V => ?_))
    refine wq_iret (pc := 47) dX3_bars_47 rfl ⟨_, _, rfl, rfl, V⟩
  · have V := V.2 c
    refine wq_aload_n (pc := 11) dX3_bars_11 rfl rfl ?_
    refine tcq2139 (pc := 12) (As := []) (st := []) rfl dX3_bars_12 rfl (Nat.le_of_ble_eq_true rfl) V (tw_ki (fun y5 s4 V => ?_))
    refine wq_aload_n (pc := 15) dX3_bars_15 rfl rfl ?_
    refine wq_aload_n (pc := 16) dX3_bars_16 rfl rfl ?_
    refine tcq2147 (pc := 17) (As := []) (st := [.ref o, .int y5]) rfl dX3_bars_17 rfl (Nat.le_of_ble_eq_true rfl) V (tw_ki (fun y7 s6 V => ?_))
    refine tcq2151 (pc := 20) (As := [.int y7]) (st := [.int y5]) rfl dX3_bars_20 rfl (Nat.le_of_ble_eq_true rfl) V (tw_ki (fun y9 s8 V => ?_))
    refine wq_aload_n (pc := 23) dX3_bars_23 rfl rfl ?_
    refine tg15 (pc := 24) rfl dX3_bars_24 ?_
    refine wq_bipush (pc := 27) dX3_bars_27 cstb49 ?_
    refine tw_iald' (pc := 29) ok mia15 dX3_bars_29 V (fun y10 V => ?_)
    refine wq_imul (pc := 30) dX3_bars_30 ?_
    refine wq_icmp_ge (pc := 31) (tgt := 38) dX3_bars_31 rfl (fun c => ?_) (fun c => ?_)
    · have V := V.1 c
      refine wq_iconst (pc := 38) dX3_bars_38 csti0 ?_
      refine wq_goto (pc := 39) (tgt := 47) dX3_bars_39 rfl ?_
      refine wq_iret (pc := 47) dX3_bars_47 rfl ⟨_, _, rfl, rfl, V⟩
    · have V := V.2 c
      refine wq_iconst (pc := 34) dX3_bars_34 csti1 ?_
      refine wq_goto (pc := 35) (tgt := 47) dX3_bars_35 rfl ?_
      refine wq_iret (pc := 47) dX3_bars_47 rfl ⟨_, _, rfl, rfl, V⟩
theorem vX3_fair_0 {G : wq_G} {l : Launch} {o : Nat} {ad : Nat → Nat} {h : wq_H} {d : Nat} {K : Int32 → tw_S → Prop} (ok : tw_ok G o ad)  {x1 : Int32} {s : tw_S} (V : tw_cv G l o ad h d mX3_good [.ref o] s (fun s1 => (¬ (s1.1 14) = 0 → tw_ci G l o ad h d mX3_worstHidden [.ref o] s1 (fun y3 s2 => tw_ci G l o ad h d mX3_paid [.ref o, .int y3] s2 (fun y5 s4 => tw_ld s4 15 (49 : Int32) (fun y6 => ((y5 * y6) = 0 → K (1 : Int32) s4) ∧ (¬ (y5 * y6) = 0 → tw_ci G l o ad h d mX3_winsOf [.ref o] s4 (fun y8 s7 => (y8 < (y5 * y6) → tw_ci G l o ad h d mX3_winsOf [.ref o] s7 (fun y10 s9 => tw_ci G l o ad h d mX3_lowest [.long y10.toInt64, .long ((y5 * y6).toInt64), .int x1] s9 (fun y12 s11 => K y12 s11))) ∧ (¬ y8 < (y5 * y6) → K (1 : Int32) s7))))))) ∧ ((s1.1 14) = 0 → tw_ci G l o ad h d mX3_no [.ref o, .int (1 : Int32)] s1 (fun y14 s13 => K y14 s13)))) : tw_T G l o ad h d mX3_fair (tw_qi G o ad h K) 0 [some (.ref o), some (.int x1), none] [] s := by
  refine wq_aload_n (pc := 0) dX3_fair_0 rfl rfl ?_
  refine tcq1836 (pc := 1) (As := []) (st := []) rfl dX3_fair_1 rfl (Nat.le_of_ble_eq_true rfl) V (tw_kv (fun s1 V => ?_))
  refine wq_aload_n (pc := 4) dX3_fair_4 rfl rfl ?_
  refine tg14 (pc := 5) rfl dX3_fair_5 ?_
  refine wq_if_ne (pc := 8) (tgt := 17) dX3_fair_8 rfl (fun c => ?_) (fun c => ?_)
  · have V := V.1 c
    refine wq_aload_n (pc := 17) dX3_fair_17 rfl rfl ?_
    refine wq_aload_n (pc := 18) dX3_fair_18 rfl rfl ?_
    refine tcq2147 (pc := 19) (As := []) (st := [.ref o]) rfl dX3_fair_19 rfl (Nat.le_of_ble_eq_true rfl) V (tw_ki (fun y3 s2 V => ?_))
    refine tcq2151 (pc := 22) (As := [.int y3]) (st := []) rfl dX3_fair_22 rfl (Nat.le_of_ble_eq_true rfl) V (tw_ki (fun y5 s4 V => ?_))
    refine wq_aload_n (pc := 25) dX3_fair_25 rfl rfl ?_
    refine tg15 (pc := 26) rfl dX3_fair_26 ?_
    refine wq_bipush (pc := 29) dX3_fair_29 cstb49 ?_
    refine tw_iald' (pc := 31) ok mia15 dX3_fair_31 V (fun y6 V => ?_)
    refine wq_imul (pc := 32) dX3_fair_32 ?_
    refine wq_istore_n (L' := [some (.ref o), some (.int x1), some (.int (y5 * y6))]) (pc := 33) dX3_fair_33 rfl (Nat.le_of_ble_eq_true rfl) rfl ?_
    refine wq_iload_n (pc := 34) dX3_fair_34 rfl rfl ?_
    refine wq_if_eq (pc := 35) (tgt := 46) dX3_fair_35 rfl (fun c => ?_) (fun c => ?_)
    · have V := V.1 c
      refine wq_iconst (pc := 46) dX3_fair_46 csti1 ?_
      refine wq_goto (pc := 47) (tgt := 61) dX3_fair_47 rfl ?_
      refine wq_iret (pc := 61) dX3_fair_61 rfl ⟨_, _, rfl, rfl, V⟩
    · have V := V.2 c
      refine wq_aload_n (pc := 38) dX3_fair_38 rfl rfl ?_
      refine tcq2139 (pc := 39) (As := []) (st := []) rfl dX3_fair_39 rfl (Nat.le_of_ble_eq_true rfl) V (tw_ki (fun y8 s7 V => ?_))
      refine wq_iload_n (pc := 42) dX3_fair_42 rfl rfl ?_
      refine wq_icmp_lt (pc := 43) (tgt := 50) dX3_fair_43 rfl (fun c => ?_) (fun c => ?_)
      · have V := V.1 c
        refine wq_aload_n (pc := 50) dX3_fair_50 rfl rfl ?_
        refine tcq2139 (pc := 51) (As := []) (st := []) rfl dX3_fair_51 rfl (Nat.le_of_ble_eq_true rfl) V (tw_ki (fun y10 s9 V => ?_))
        refine wq_i2l (pc := 54) dX3_fair_54 ?_
        refine wq_iload_n (pc := 55) dX3_fair_55 rfl rfl ?_
        refine wq_i2l (pc := 56) dX3_fair_56 ?_
        refine wq_iload_n (pc := 57) dX3_fair_57 rfl rfl ?_
        refine tcq2022 (pc := 58) (As := [.long y10.toInt64, .long ((y5 * y6).toInt64), .int x1]) (st := []) rfl dX3_fair_58 rfl (Nat.le_of_ble_eq_true rfl) V (tw_ki (fun y12 s11 V => ?_))
        refine wq_iret (pc := 61) dX3_fair_61 rfl ⟨_, _, rfl, rfl, V⟩
      · have V := V.2 c
        refine wq_iconst (pc := 46) dX3_fair_46 csti1 ?_
        refine wq_goto (pc := 47) (tgt := 61) dX3_fair_47 rfl ?_
        refine wq_iret (pc := 61) dX3_fair_61 rfl ⟨_, _, rfl, rfl, V⟩
  · have V := V.2 c
    refine wq_aload_n (pc := 11) dX3_fair_11 rfl rfl ?_
    refine wq_iconst (pc := 12) dX3_fair_12 csti1 ?_
    refine tcq1843 (pc := 13) (As := [.int (1 : Int32)]) (st := []) rfl dX3_fair_13 rfl (Nat.le_of_ble_eq_true rfl) V (tw_ki (fun y14 s13 V => ?_))
    refine wq_iret (pc := 16) dX3_fair_16 rfl ⟨_, _, rfl, rfl, V⟩
theorem vX3_ways_0 {G : wq_G} {l : Launch} {o : Nat} {ad : Nat → Nat} {h : wq_H} {d : Nat} {K : Int32 → tw_S → Prop} (ok : tw_ok G o ad)   {s : tw_S} (V : tw_cv G l o ad h d mX3_good [.ref o] s (fun s1 => (¬ (s1.1 14) = 0 → tw_T G l o ad h d mX3_ways (tw_qi G o ad h K) 21 [some (.ref o), some (.int (0 : Int32)), some (.int (0 : Int32))] [] s1) ∧ ((s1.1 14) = 0 → tw_ci G l o ad h d mX3_no [.ref o, .int (1 : Int32)] s1 (fun y3 s2 => K y3 s2)))) : tw_T G l o ad h d mX3_ways (tw_qi G o ad h K) 0 [some (.ref o), none, none] [] s := by
  refine wq_aload_n (pc := 0) dX3_ways_0 rfl rfl ?_
  refine tcq1836 (pc := 1) (As := []) (st := []) rfl dX3_ways_1 rfl (Nat.le_of_ble_eq_true rfl) V (tw_kv (fun s1 V => ?_))
  refine wq_aload_n (pc := 4) dX3_ways_4 rfl rfl ?_
  refine tg14 (pc := 5) rfl dX3_ways_5 ?_
  refine wq_if_ne (pc := 8) (tgt := 17) dX3_ways_8 rfl (fun c => ?_) (fun c => ?_)
  · have V := V.1 c
    refine wq_iconst (pc := 17) dX3_ways_17 csti0 ?_
    refine wq_istore_n (L' := [some (.ref o), some (.int (0 : Int32)), none]) (pc := 18) dX3_ways_18 rfl (Nat.le_of_ble_eq_true rfl) rfl ?_
    refine wq_iconst (pc := 19) dX3_ways_19 csti0 ?_
    refine wq_istore_n (L' := [some (.ref o), some (.int (0 : Int32)), some (.int (0 : Int32))]) (pc := 20) dX3_ways_20 rfl (Nat.le_of_ble_eq_true rfl) rfl ?_
    exact V
  · have V := V.2 c
    refine wq_aload_n (pc := 11) dX3_ways_11 rfl rfl ?_
    refine wq_iconst (pc := 12) dX3_ways_12 csti1 ?_
    refine tcq1843 (pc := 13) (As := [.int (1 : Int32)]) (st := []) rfl dX3_ways_13 rfl (Nat.le_of_ble_eq_true rfl) V (tw_ki (fun y3 s2 V => ?_))
    refine wq_iret (pc := 16) dX3_ways_16 rfl ⟨_, _, rfl, rfl, V⟩
theorem vX3_ways_21 {G : wq_G} {l : Launch} {o : Nat} {ad : Nat → Nat} {h : wq_H} {d : Nat} {K : Int32 → tw_S → Prop} (ok : tw_ok G o ad)  {x1 : Int32} {x2 : Int32} {s : tw_S} (V : tw_ld s 15 (51 : Int32) (fun y1 => (((1 : Int32) <<< (y1 &&& 31)) ≤ x2 → K x1 s) ∧ (¬ ((1 : Int32) <<< (y1 &&& 31)) ≤ x2 → tw_ci G l o ad h d mX3_linesBy [.ref o, .int x2] s (fun y3 s2 => tw_ci G l o ad h d mX3_allLines [.ref o] s2 (fun y5 s4 => (¬ y3 = y5 → tw_T G l o ad h d mX3_ways (tw_qi G o ad h K) 21 [some (.ref o), some (.int (x1 + (0 : Int32))), some (.int (x2 + (1 : Int32)))] [] s4) ∧ (y3 = y5 → tw_T G l o ad h d mX3_ways (tw_qi G o ad h K) 21 [some (.ref o), some (.int (x1 + (1 : Int32))), some (.int (x2 + (1 : Int32)))] [] s4)))))) : tw_T G l o ad h d mX3_ways (tw_qi G o ad h K) 21 [some (.ref o), some (.int x1), some (.int x2)] [] s := by
  refine wq_iload_n (pc := 21) dX3_ways_21 rfl rfl ?_
  refine wq_iconst (pc := 22) dX3_ways_22 csti1 ?_
  refine wq_aload_n (pc := 23) dX3_ways_23 rfl rfl ?_
  refine tg15 (pc := 24) rfl dX3_ways_24 ?_
  refine wq_bipush (pc := 27) dX3_ways_27 cstb51 ?_
  refine tw_iald' (pc := 29) ok mia15 dX3_ways_29 V (fun y1 V => ?_)
  refine wq_ishl (pc := 30) dX3_ways_30 ?_
  refine wq_icmp_ge (pc := 31) (tgt := 60) dX3_ways_31 rfl (fun c => ?_) (fun c => ?_)
  · have V := V.1 c
    refine wq_iload_n (pc := 60) dX3_ways_60 rfl rfl ?_
    refine wq_iret (pc := 61) dX3_ways_61 rfl ⟨_, _, rfl, rfl, V⟩
  · have V := V.2 c
    refine wq_iload_n (pc := 34) dX3_ways_34 rfl rfl ?_
    refine wq_aload_n (pc := 35) dX3_ways_35 rfl rfl ?_
    refine wq_iload_n (pc := 36) dX3_ways_36 rfl rfl ?_
    refine tcq2171 (pc := 37) (As := [.int x2]) (st := [.int x1]) rfl dX3_ways_37 rfl (Nat.le_of_ble_eq_true rfl) V (tw_ki (fun y3 s2 V => ?_))
    refine wq_aload_n (pc := 40) dX3_ways_40 rfl rfl ?_
    refine tcq2175 (pc := 41) (As := []) (st := [.int y3, .int x1]) rfl dX3_ways_41 rfl (Nat.le_of_ble_eq_true rfl) V (tw_ki (fun y5 s4 V => ?_))
    refine wq_icmp_ne (pc := 44) (tgt := 51) dX3_ways_44 rfl (fun c => ?_) (fun c => ?_)
    · have V := V.1 c
      refine wq_iconst (pc := 51) dX3_ways_51 csti0 ?_
      refine wq_iadd (pc := 52) dX3_ways_52 ?_
      refine wq_istore_n (L' := [some (.ref o), some (.int (x1 + (0 : Int32))), some (.int x2)]) (pc := 53) dX3_ways_53 rfl (Nat.le_of_ble_eq_true rfl) rfl ?_
      refine wq_iinc (L' := [some (.ref o), some (.int (x1 + (0 : Int32))), some (.int (x2 + (1 : Int32)))]) (pc := 54) dX3_ways_54 rfl (by rw [csti1]) (Nat.le_of_ble_eq_true rfl) rfl ?_
      refine wq_goto (pc := 57) (tgt := 21) dX3_ways_57 rfl ?_
      exact V
    · have V := V.2 c
      refine wq_iconst (pc := 47) dX3_ways_47 csti1 ?_
      refine wq_goto (pc := 48) (tgt := 52) dX3_ways_48 rfl ?_
      refine wq_iadd (pc := 52) dX3_ways_52 ?_
      refine wq_istore_n (L' := [some (.ref o), some (.int (x1 + (1 : Int32))), some (.int x2)]) (pc := 53) dX3_ways_53 rfl (Nat.le_of_ble_eq_true rfl) rfl ?_
      refine wq_iinc (L' := [some (.ref o), some (.int (x1 + (1 : Int32))), some (.int (x2 + (1 : Int32)))]) (pc := 54) dX3_ways_54 rfl (by rw [csti1]) (Nat.le_of_ble_eq_true rfl) rfl ?_
      refine wq_goto (pc := 57) (tgt := 21) dX3_ways_57 rfl ?_
      exact V
theorem vX3_linesBy_0 {G : wq_G} {l : Launch} {o : Nat} {ad : Nat → Nat} {h : wq_H} {d : Nat} {K : Int32 → tw_S → Prop} (ok : tw_ok G o ad)  {x1 : Int32} {s : tw_S} (V : tw_T G l o ad h d mX3_linesBy (tw_qi G o ad h K) 4 [some (.ref o), some (.int x1), some (.int (0 : Int32)), some (.int (0 : Int32)), none, none] [] s) : tw_T G l o ad h d mX3_linesBy (tw_qi G o ad h K) 0 [some (.ref o), some (.int x1), none, none, none, none] [] s := by
  refine wq_iconst (pc := 0) dX3_linesBy_0 csti0 ?_
  refine wq_istore_n (L' := [some (.ref o), some (.int x1), some (.int (0 : Int32)), none, none, none]) (pc := 1) dX3_linesBy_1 rfl (Nat.le_of_ble_eq_true rfl) rfl ?_
  refine wq_iconst (pc := 2) dX3_linesBy_2 csti0 ?_
  refine wq_istore_n (L' := [some (.ref o), some (.int x1), some (.int (0 : Int32)), some (.int (0 : Int32)), none, none]) (pc := 3) dX3_linesBy_3 rfl (Nat.le_of_ble_eq_true rfl) rfl ?_
  exact V
theorem vX3_linesBy_4 {G : wq_G} {l : Launch} {o : Nat} {ad : Nat → Nat} {h : wq_H} {d : Nat} {K : Int32 → tw_S → Prop} (ok : tw_ok G o ad)  {x1 : Int32} {x2 : Int32} {x3 : Int32} {s : tw_S} (V : tw_ld s 15 (52 : Int32) (fun y1 => (y1 ≤ x3 → K x2 s) ∧ (¬ y1 ≤ x3 → tw_T G l o ad h d mX3_linesBy (tw_qi G o ad h K) 21 [some (.ref o), some (.int x1), some (.int x2), some (.int x3), some (.int (0 : Int32)), some (.int (0 : Int32))] [] s))) : tw_T G l o ad h d mX3_linesBy (tw_qi G o ad h K) 4 [some (.ref o), some (.int x1), some (.int x2), some (.int x3), none, none] [] s := by
  refine wq_iload_n (pc := 4) dX3_linesBy_4 rfl rfl ?_
  refine wq_aload_n (pc := 5) dX3_linesBy_5 rfl rfl ?_
  refine tg15 (pc := 6) rfl dX3_linesBy_6 ?_
  refine wq_bipush (pc := 9) dX3_linesBy_9 cstb52 ?_
  refine tw_iald' (pc := 11) ok mia15 dX3_linesBy_11 V (fun y1 V => ?_)
  refine wq_icmp_ge (pc := 12) (tgt := 88) dX3_linesBy_12 rfl (fun c => ?_) (fun c => ?_)
  · have V := V.1 c
    refine wq_iload_n (pc := 88) dX3_linesBy_88 rfl rfl ?_
    refine wq_iret (pc := 89) dX3_linesBy_89 rfl ⟨_, _, rfl, rfl, V⟩
  · have V := V.2 c
    refine wq_iconst (pc := 15) dX3_linesBy_15 csti0 ?_
    refine wq_istore (L' := [some (.ref o), some (.int x1), some (.int x2), some (.int x3), some (.int (0 : Int32)), none]) (pc := 16) dX3_linesBy_16 (Nat.le_of_ble_eq_true rfl) rfl ?_
    refine wq_iconst (pc := 18) dX3_linesBy_18 csti0 ?_
    refine wq_istore (L' := [some (.ref o), some (.int x1), some (.int x2), some (.int x3), some (.int (0 : Int32)), some (.int (0 : Int32))]) (pc := 19) dX3_linesBy_19 (Nat.le_of_ble_eq_true rfl) rfl ?_
    exact V
theorem vX3_linesBy_21 {G : wq_G} {l : Launch} {o : Nat} {ad : Nat → Nat} {h : wq_H} {d : Nat} {K : Int32 → tw_S → Prop} (ok : tw_ok G o ad)  {x1 : Int32} {x2 : Int32} {x3 : Int32} {x4 : Int32} {x5 : Int32} {s : tw_S} (V : ((3 : Int32) ≤ x5 → tw_ld s 15 ((77 : Int32) + x3) (fun y1 => (¬ (x4 - x4 / (2 : Int32) * (2 : Int32)) = y1 → tw_T G l o ad h d mX3_linesBy (tw_qi G o ad h K) 4 [some (.ref o), some (.int x1), some (.int (x2 ||| (0 : Int32))), some (.int (x3 + (1 : Int32))), none, none] [] s) ∧ ((x4 - x4 / (2 : Int32) * (2 : Int32)) = y1 → tw_T G l o ad h d mX3_linesBy (tw_qi G o ad h K) 4 [some (.ref o), some (.int x1), some (.int (x2 ||| ((1 : Int32) <<< (x3 &&& 31)))), some (.int (x3 + (1 : Int32))), none, none] [] s))) ∧ (¬ (3 : Int32) ≤ x5 → tw_ld s 15 (((53 : Int32) + ((3 : Int32) * x3)) + x5) (fun y2 => tw_T G l o ad h d mX3_linesBy (tw_qi G o ad h K) 21 [some (.ref o), some (.int x1), some (.int x2), some (.int x3), some (.int (x4 + ((x1 >>> (y2 &&& 31)) &&& (1 : Int32)))), some (.int (x5 + (1 : Int32)))] [] s))) : tw_T G l o ad h d mX3_linesBy (tw_qi G o ad h K) 21 [some (.ref o), some (.int x1), some (.int x2), some (.int x3), some (.int x4), some (.int x5)] [] s := by
  refine wq_iload (pc := 21) dX3_linesBy_21 rfl ?_
  refine wq_iconst (pc := 23) dX3_linesBy_23 csti3 ?_
  refine wq_icmp_ge (pc := 24) (tgt := 56) dX3_linesBy_24 rfl (fun c => ?_) (fun c => ?_)
  · have V := V.1 c
    refine wq_iload_n (pc := 56) dX3_linesBy_56 rfl rfl ?_
    refine wq_iload (pc := 57) dX3_linesBy_57 rfl ?_
    refine wq_iconst (pc := 59) dX3_linesBy_59 csti2 ?_
    refine wq_irem (pc := 60) dX3_linesBy_60 (by decide) ?_
    refine wq_aload_n (pc := 61) dX3_linesBy_61 rfl rfl ?_
    refine tg15 (pc := 62) rfl dX3_linesBy_62 ?_
    refine wq_bipush (pc := 65) dX3_linesBy_65 cstb77 ?_
    refine wq_iload_n (pc := 67) dX3_linesBy_67 rfl rfl ?_
    refine wq_iadd (pc := 68) dX3_linesBy_68 ?_
    refine tw_iald' (pc := 69) ok mia15 dX3_linesBy_69 V (fun y1 V => ?_)
    refine wq_icmp_ne (pc := 70) (tgt := 79) dX3_linesBy_70 rfl (fun c => ?_) (fun c => ?_)
    · have V := V.1 c
      refine wq_iconst (pc := 79) dX3_linesBy_79 csti0 ?_
      refine wq_ior (pc := 80) dX3_linesBy_80 ?_
      refine wq_istore_n (L' := [some (.ref o), some (.int x1), some (.int (x2 ||| (0 : Int32))), some (.int x3), some (.int x4), some (.int x5)]) (pc := 81) dX3_linesBy_81 rfl (Nat.le_of_ble_eq_true rfl) rfl ?_
      refine wq_iinc (L' := [some (.ref o), some (.int x1), some (.int (x2 ||| (0 : Int32))), some (.int (x3 + (1 : Int32))), some (.int x4), some (.int x5)]) (pc := 82) dX3_linesBy_82 rfl (by rw [csti1]) (Nat.le_of_ble_eq_true rfl) rfl ?_
      refine wq_goto (pc := 85) (tgt := 4) dX3_linesBy_85 rfl ?_
      exact wq_T.less V ⟨rfl, ⟨rfl, ⟨rfl, ⟨rfl, trivial⟩⟩⟩⟩
    · have V := V.2 c
      refine wq_iconst (pc := 73) dX3_linesBy_73 csti1 ?_
      refine wq_iload_n (pc := 74) dX3_linesBy_74 rfl rfl ?_
      refine wq_ishl (pc := 75) dX3_linesBy_75 ?_
      refine wq_goto (pc := 76) (tgt := 80) dX3_linesBy_76 rfl ?_
      refine wq_ior (pc := 80) dX3_linesBy_80 ?_
      refine wq_istore_n (L' := [some (.ref o), some (.int x1), some (.int (x2 ||| ((1 : Int32) <<< (x3 &&& 31)))), some (.int x3), some (.int x4), some (.int x5)]) (pc := 81) dX3_linesBy_81 rfl (Nat.le_of_ble_eq_true rfl) rfl ?_
      refine wq_iinc (L' := [some (.ref o), some (.int x1), some (.int (x2 ||| ((1 : Int32) <<< (x3 &&& 31)))), some (.int (x3 + (1 : Int32))), some (.int x4), some (.int x5)]) (pc := 82) dX3_linesBy_82 rfl (by rw [csti1]) (Nat.le_of_ble_eq_true rfl) rfl ?_
      refine wq_goto (pc := 85) (tgt := 4) dX3_linesBy_85 rfl ?_
      exact wq_T.less V ⟨rfl, ⟨rfl, ⟨rfl, ⟨rfl, trivial⟩⟩⟩⟩
  · have V := V.2 c
    refine wq_iload (pc := 27) dX3_linesBy_27 rfl ?_
    refine wq_iload_n (pc := 29) dX3_linesBy_29 rfl rfl ?_
    refine wq_aload_n (pc := 30) dX3_linesBy_30 rfl rfl ?_
    refine tg15 (pc := 31) rfl dX3_linesBy_31 ?_
    refine wq_bipush (pc := 34) dX3_linesBy_34 cstb53 ?_
    refine wq_iconst (pc := 36) dX3_linesBy_36 csti3 ?_
    refine wq_iload_n (pc := 37) dX3_linesBy_37 rfl rfl ?_
    refine wq_imul (pc := 38) dX3_linesBy_38 ?_
    refine wq_iadd (pc := 39) dX3_linesBy_39 ?_
    refine wq_iload (pc := 40) dX3_linesBy_40 rfl ?_
    refine wq_iadd (pc := 42) dX3_linesBy_42 ?_
    refine tw_iald' (pc := 43) ok mia15 dX3_linesBy_43 V (fun y2 V => ?_)
    refine wq_ishr (pc := 44) dX3_linesBy_44 ?_
    refine wq_iconst (pc := 45) dX3_linesBy_45 csti1 ?_
    refine wq_iand (pc := 46) dX3_linesBy_46 ?_
    refine wq_iadd (pc := 47) dX3_linesBy_47 ?_
    refine wq_istore (L' := [some (.ref o), some (.int x1), some (.int x2), some (.int x3), some (.int (x4 + ((x1 >>> (y2 &&& 31)) &&& (1 : Int32)))), some (.int x5)]) (pc := 48) dX3_linesBy_48 (Nat.le_of_ble_eq_true rfl) rfl ?_
    refine wq_iinc (L' := [some (.ref o), some (.int x1), some (.int x2), some (.int x3), some (.int (x4 + ((x1 >>> (y2 &&& 31)) &&& (1 : Int32)))), some (.int (x5 + (1 : Int32)))]) (pc := 50) dX3_linesBy_50 rfl (by rw [csti1]) (Nat.le_of_ble_eq_true rfl) rfl ?_
    refine wq_goto (pc := 53) (tgt := 21) dX3_linesBy_53 rfl ?_
    exact V
theorem vX3_allLines_0 {G : wq_G} {l : Launch} {o : Nat} {ad : Nat → Nat} {h : wq_H} {d : Nat} {K : Int32 → tw_S → Prop} (ok : tw_ok G o ad)   {s : tw_S} (V : tw_ld s 15 (52 : Int32) (fun y1 => K (((1 : Int32) <<< (y1 &&& 31)) - (1 : Int32)) s)) : tw_T G l o ad h d mX3_allLines (tw_qi G o ad h K) 0 [some (.ref o)] [] s := by
  refine wq_iconst (pc := 0) dX3_allLines_0 csti1 ?_
  refine wq_aload_n (pc := 1) dX3_allLines_1 rfl rfl ?_
  refine tg15 (pc := 2) rfl dX3_allLines_2 ?_
  refine wq_bipush (pc := 5) dX3_allLines_5 cstb52 ?_
  refine tw_iald' (pc := 7) ok mia15 dX3_allLines_7 V (fun y1 V => ?_)
  refine wq_ishl (pc := 8) dX3_allLines_8 ?_
  refine wq_iconst (pc := 9) dX3_allLines_9 csti1 ?_
  refine wq_isub (pc := 10) dX3_allLines_10 ?_
  refine wq_iret (pc := 11) dX3_allLines_11 rfl ⟨_, _, rfl, rfl, V⟩
theorem vX3_forced_0 {G : wq_G} {l : Launch} {o : Nat} {ad : Nat → Nat} {h : wq_H} {d : Nat} {K : Int32 → tw_S → Prop} (ok : tw_ok G o ad)  {x1 : Int32} {s : tw_S} (V : tw_cv G l o ad h d mX3_good [.ref o] s (fun s1 => ((s1.1 14) = 0 → tw_ci G l o ad h d mX3_no [.ref o, .int (1 : Int32)] s1 (fun y3 s2 => K y3 s2)) ∧ (¬ (s1.1 14) = 0 → tw_ld s1 15 (51 : Int32) (fun y4 => tw_ci G l o ad h d mX3_within [.int x1, .int (0 : Int32), .int (y4 - (1 : Int32))] s1 (fun y6 s5 => (¬ y6 = 0 → tw_T G l o ad h d mX3_forced (tw_qi G o ad h K) 41 [some (.ref o), some (.int x1), some (.int (0 : Int32)), some (.int (0 : Int32)), some (.int (0 : Int32))] [] s5) ∧ (y6 = 0 → tw_ci G l o ad h d mX3_no [.ref o, .int (1 : Int32)] s5 (fun y8 s7 => K y8 s7))))))) : tw_T G l o ad h d mX3_forced (tw_qi G o ad h K) 0 [some (.ref o), some (.int x1), none, none, none] [] s := by
  refine wq_aload_n (pc := 0) dX3_forced_0 rfl rfl ?_
  refine tcq1836 (pc := 1) (As := []) (st := []) rfl dX3_forced_1 rfl (Nat.le_of_ble_eq_true rfl) V (tw_kv (fun s1 V => ?_))
  refine wq_aload_n (pc := 4) dX3_forced_4 rfl rfl ?_
  refine tg14 (pc := 5) rfl dX3_forced_5 ?_
  refine wq_if_eq (pc := 8) (tgt := 28) dX3_forced_8 rfl (fun c => ?_) (fun c => ?_)
  · have V := V.1 c
    refine wq_aload_n (pc := 28) dX3_forced_28 rfl rfl ?_
    refine wq_iconst (pc := 29) dX3_forced_29 csti1 ?_
    refine tcq1843 (pc := 30) (As := [.int (1 : Int32)]) (st := []) rfl dX3_forced_30 rfl (Nat.le_of_ble_eq_true rfl) V (tw_ki (fun y3 s2 V => ?_))
    refine wq_iret (pc := 33) dX3_forced_33 rfl ⟨_, _, rfl, rfl, V⟩
  · have V := V.2 c
    refine wq_iload_n (pc := 11) dX3_forced_11 rfl rfl ?_
    refine wq_iconst (pc := 12) dX3_forced_12 csti0 ?_
    refine wq_aload_n (pc := 13) dX3_forced_13 rfl rfl ?_
    refine tg15 (pc := 14) rfl dX3_forced_14 ?_
    refine wq_bipush (pc := 17) dX3_forced_17 cstb51 ?_
    refine tw_iald' (pc := 19) ok mia15 dX3_forced_19 V (fun y4 V => ?_)
    refine wq_iconst (pc := 20) dX3_forced_20 csti1 ?_
    refine wq_isub (pc := 21) dX3_forced_21 ?_
    refine tcq1840 (pc := 22) (As := [.int x1, .int (0 : Int32), .int (y4 - (1 : Int32))]) (st := []) rfl dX3_forced_22 rfl (Nat.le_of_ble_eq_true rfl) V (tw_ki (fun y6 s5 V => ?_))
    refine wq_if_ne (pc := 25) (tgt := 34) dX3_forced_25 rfl (fun c => ?_) (fun c => ?_)
    · have V := V.1 c
      refine wq_iconst (pc := 34) dX3_forced_34 csti0 ?_
      refine wq_istore_n (L' := [some (.ref o), some (.int x1), some (.int (0 : Int32)), none, none]) (pc := 35) dX3_forced_35 rfl (Nat.le_of_ble_eq_true rfl) rfl ?_
      refine wq_iconst (pc := 36) dX3_forced_36 csti0 ?_
      refine wq_istore_n (L' := [some (.ref o), some (.int x1), some (.int (0 : Int32)), some (.int (0 : Int32)), none]) (pc := 37) dX3_forced_37 rfl (Nat.le_of_ble_eq_true rfl) rfl ?_
      refine wq_iconst (pc := 38) dX3_forced_38 csti0 ?_
      refine wq_istore (L' := [some (.ref o), some (.int x1), some (.int (0 : Int32)), some (.int (0 : Int32)), some (.int (0 : Int32))]) (pc := 39) dX3_forced_39 (Nat.le_of_ble_eq_true rfl) rfl ?_
      exact V
    · have V := V.2 c
      refine wq_aload_n (pc := 28) dX3_forced_28 rfl rfl ?_
      refine wq_iconst (pc := 29) dX3_forced_29 csti1 ?_
      refine tcq1843 (pc := 30) (As := [.int (1 : Int32)]) (st := []) rfl dX3_forced_30 rfl (Nat.le_of_ble_eq_true rfl) V (tw_ki (fun y8 s7 V => ?_))
      refine wq_iret (pc := 33) dX3_forced_33 rfl ⟨_, _, rfl, rfl, V⟩
theorem vX3_forced_41 {G : wq_G} {l : Launch} {o : Nat} {ad : Nat → Nat} {h : wq_H} {d : Nat} {K : Int32 → tw_S → Prop} (ok : tw_ok G o ad)  {x1 : Int32} {x2 : Int32} {x3 : Int32} {x4 : Int32} {s : tw_S} (V : tw_ld s 15 (51 : Int32) (fun y1 => (((1 : Int32) <<< (y1 &&& 31)) ≤ x4 → (¬ (x2 + x3) = 0 → (¬ x2 = 0 → (¬ x3 = 0 → K (-2 : Int32) s) ∧ (x3 = 0 → K (0 : Int32) s)) ∧ (x2 = 0 → K (1 : Int32) s)) ∧ ((x2 + x3) = 0 → tw_ci G l o ad h d mX3_no [.ref o, .int (6 : Int32)] s (fun y3 s2 => K y3 s2))) ∧ (¬ ((1 : Int32) <<< (y1 &&& 31)) ≤ x4 → tw_ci G l o ad h d mX3_linesBy [.ref o, .int x4] s (fun y5 s4 => tw_ci G l o ad h d mX3_allLines [.ref o] s4 (fun y7 s6 => (y5 = y7 → tw_ci G l o ad h d mX3_has [.int x4, .int x1] s6 (fun y9 s8 => (y9 = 0 → tw_T G l o ad h d mX3_forced (tw_qi G o ad h K) 41 [some (.ref o), some (.int x1), some (.int (x2 + (1 : Int32))), some (.int x3), some (.int (x4 + (1 : Int32)))] [] s8) ∧ (¬ y9 = 0 → tw_T G l o ad h d mX3_forced (tw_qi G o ad h K) 41 [some (.ref o), some (.int x1), some (.int x2), some (.int (x3 + (1 : Int32))), some (.int (x4 + (1 : Int32)))] [] s8))) ∧ (¬ y5 = y7 → tw_T G l o ad h d mX3_forced (tw_qi G o ad h K) 41 [some (.ref o), some (.int x1), some (.int x2), some (.int x3), some (.int (x4 + (1 : Int32)))] [] s6)))))) : tw_T G l o ad h d mX3_forced (tw_qi G o ad h K) 41 [some (.ref o), some (.int x1), some (.int x2), some (.int x3), some (.int x4)] [] s := by
  refine wq_iload (pc := 41) dX3_forced_41 rfl ?_
  refine wq_iconst (pc := 43) dX3_forced_43 csti1 ?_
  refine wq_aload_n (pc := 44) dX3_forced_44 rfl rfl ?_
  refine tg15 (pc := 45) rfl dX3_forced_45 ?_
  refine wq_bipush (pc := 48) dX3_forced_48 cstb51 ?_
  refine tw_iald' (pc := 50) ok mia15 dX3_forced_50 V (fun y1 V => ?_)
  refine wq_ishl (pc := 51) dX3_forced_51 ?_
  refine wq_icmp_ge (pc := 52) (tgt := 95) dX3_forced_52 rfl (fun c => ?_) (fun c => ?_)
  · have V := V.1 c
    refine wq_iload_n (pc := 95) dX3_forced_95 rfl rfl ?_
    refine wq_iload_n (pc := 96) dX3_forced_96 rfl rfl ?_
    refine wq_iadd (pc := 97) dX3_forced_97 ?_
    refine wq_if_ne (pc := 98) (tgt := 108) dX3_forced_98 rfl (fun c => ?_) (fun c => ?_)
    · have V := V.1 c
      refine wq_iload_n (pc := 108) dX3_forced_108 rfl rfl ?_
      refine wq_if_ne (pc := 109) (tgt := 116) dX3_forced_109 rfl (fun c => ?_) (fun c => ?_)
      · have V := V.1 c
        refine wq_iload_n (pc := 116) dX3_forced_116 rfl rfl ?_
        refine wq_if_ne (pc := 117) (tgt := 124) dX3_forced_117 rfl (fun c => ?_) (fun c => ?_)
        · have V := V.1 c
          refine wq_bipush (pc := 124) dX3_forced_124 cstbm2 ?_
          refine wq_iret (pc := 126) dX3_forced_126 rfl ⟨_, _, rfl, rfl, V⟩
        · have V := V.2 c
          refine wq_iconst (pc := 120) dX3_forced_120 csti0 ?_
          refine wq_goto (pc := 121) (tgt := 126) dX3_forced_121 rfl ?_
          refine wq_iret (pc := 126) dX3_forced_126 rfl ⟨_, _, rfl, rfl, V⟩
      · have V := V.2 c
        refine wq_iconst (pc := 112) dX3_forced_112 csti1 ?_
        refine wq_goto (pc := 113) (tgt := 126) dX3_forced_113 rfl ?_
        refine wq_iret (pc := 126) dX3_forced_126 rfl ⟨_, _, rfl, rfl, V⟩
    · have V := V.2 c
      refine wq_aload_n (pc := 101) dX3_forced_101 rfl rfl ?_
      refine wq_bipush (pc := 102) dX3_forced_102 cstb6 ?_
      refine tcq1843 (pc := 104) (As := [.int (6 : Int32)]) (st := []) rfl dX3_forced_104 rfl (Nat.le_of_ble_eq_true rfl) V (tw_ki (fun y3 s2 V => ?_))
      refine wq_iret (pc := 107) dX3_forced_107 rfl ⟨_, _, rfl, rfl, V⟩
  · have V := V.2 c
    refine wq_aload_n (pc := 55) dX3_forced_55 rfl rfl ?_
    refine wq_iload (pc := 56) dX3_forced_56 rfl ?_
    refine tcq2171 (pc := 58) (As := [.int x4]) (st := []) rfl dX3_forced_58 rfl (Nat.le_of_ble_eq_true rfl) V (tw_ki (fun y5 s4 V => ?_))
    refine wq_aload_n (pc := 61) dX3_forced_61 rfl rfl ?_
    refine tcq2175 (pc := 62) (As := []) (st := [.int y5]) rfl dX3_forced_62 rfl (Nat.le_of_ble_eq_true rfl) V (tw_ki (fun y7 s6 V => ?_))
    refine wq_icmp_eq (pc := 65) (tgt := 71) dX3_forced_65 rfl (fun c => ?_) (fun c => ?_)
    · have V := V.1 c
      refine wq_iload (pc := 71) dX3_forced_71 rfl ?_
      refine wq_iload_n (pc := 73) dX3_forced_73 rfl rfl ?_
      refine tcq1948 (pc := 74) (As := [.int x4, .int x1]) (st := []) rfl dX3_forced_74 rfl (Nat.le_of_ble_eq_true rfl) V (tw_ki (fun y9 s8 V => ?_))
      refine wq_if_eq (pc := 77) (tgt := 86) dX3_forced_77 rfl (fun c => ?_) (fun c => ?_)
      · have V := V.1 c
        refine wq_iinc (L' := [some (.ref o), some (.int x1), some (.int (x2 + (1 : Int32))), some (.int x3), some (.int x4)]) (pc := 86) dX3_forced_86 rfl (by rw [csti1]) (Nat.le_of_ble_eq_true rfl) rfl ?_
        refine wq_iinc (L' := [some (.ref o), some (.int x1), some (.int (x2 + (1 : Int32))), some (.int x3), some (.int (x4 + (1 : Int32)))]) (pc := 89) dX3_forced_89 rfl (by rw [csti1]) (Nat.le_of_ble_eq_true rfl) rfl ?_
        refine wq_goto (pc := 92) (tgt := 41) dX3_forced_92 rfl ?_
        exact V
      · have V := V.2 c
        refine wq_iinc (L' := [some (.ref o), some (.int x1), some (.int x2), some (.int (x3 + (1 : Int32))), some (.int x4)]) (pc := 80) dX3_forced_80 rfl (by rw [csti1]) (Nat.le_of_ble_eq_true rfl) rfl ?_
        refine wq_goto (pc := 83) (tgt := 89) dX3_forced_83 rfl ?_
        refine wq_iinc (L' := [some (.ref o), some (.int x1), some (.int x2), some (.int (x3 + (1 : Int32))), some (.int (x4 + (1 : Int32)))]) (pc := 89) dX3_forced_89 rfl (by rw [csti1]) (Nat.le_of_ble_eq_true rfl) rfl ?_
        refine wq_goto (pc := 92) (tgt := 41) dX3_forced_92 rfl ?_
        exact V
    · have V := V.2 c
      refine wq_goto (pc := 68) (tgt := 89) dX3_forced_68 rfl ?_
      refine wq_iinc (L' := [some (.ref o), some (.int x1), some (.int x2), some (.int x3), some (.int (x4 + (1 : Int32)))]) (pc := 89) dX3_forced_89 rfl (by rw [csti1]) (Nat.le_of_ble_eq_true rfl) rfl ?_
      refine wq_goto (pc := 92) (tgt := 41) dX3_forced_92 rfl ?_
      exact V
theorem vX3_core_0 {G : wq_G} {l : Launch} {o : Nat} {ad : Nat → Nat} {h : wq_H} {d : Nat} {K : Int32 → tw_S → Prop} (ok : tw_ok G o ad)   {s : tw_S} (V : tw_cv G l o ad h d mX3_good [.ref o] s (fun s1 => (¬ (s1.1 14) = 0 → tw_T G l o ad h d mX3_core (tw_qi G o ad h K) 22 [some (.ref o), some (.int (-2 : Int32)), some (.int (0 : Int32))] [] s1) ∧ ((s1.1 14) = 0 → tw_ci G l o ad h d mX3_no [.ref o, .int (1 : Int32)] s1 (fun y3 s2 => K y3 s2)))) : tw_T G l o ad h d mX3_core (tw_qi G o ad h K) 0 [some (.ref o), none, none] [] s := by
  refine wq_aload_n (pc := 0) dX3_core_0 rfl rfl ?_
  refine tcq1836 (pc := 1) (As := []) (st := []) rfl dX3_core_1 rfl (Nat.le_of_ble_eq_true rfl) V (tw_kv (fun s1 V => ?_))
  refine wq_aload_n (pc := 4) dX3_core_4 rfl rfl ?_
  refine tg14 (pc := 5) rfl dX3_core_5 ?_
  refine wq_if_ne (pc := 8) (tgt := 17) dX3_core_8 rfl (fun c => ?_) (fun c => ?_)
  · have V := V.1 c
    refine wq_bipush (pc := 17) dX3_core_17 cstbm2 ?_
    refine wq_istore_n (L' := [some (.ref o), some (.int (-2 : Int32)), none]) (pc := 19) dX3_core_19 rfl (Nat.le_of_ble_eq_true rfl) rfl ?_
    refine wq_iconst (pc := 20) dX3_core_20 csti0 ?_
    refine wq_istore_n (L' := [some (.ref o), some (.int (-2 : Int32)), some (.int (0 : Int32))]) (pc := 21) dX3_core_21 rfl (Nat.le_of_ble_eq_true rfl) rfl ?_
    exact V
  · have V := V.2 c
    refine wq_aload_n (pc := 11) dX3_core_11 rfl rfl ?_
    refine wq_iconst (pc := 12) dX3_core_12 csti1 ?_
    refine tcq1843 (pc := 13) (As := [.int (1 : Int32)]) (st := []) rfl dX3_core_13 rfl (Nat.le_of_ble_eq_true rfl) V (tw_ki (fun y3 s2 V => ?_))
    refine wq_iret (pc := 16) dX3_core_16 rfl ⟨_, _, rfl, rfl, V⟩
theorem vX3_core_22 {G : wq_G} {l : Launch} {o : Nat} {ad : Nat → Nat} {h : wq_H} {d : Nat} {K : Int32 → tw_S → Prop} (ok : tw_ok G o ad)  {x1 : Int32} {x2 : Int32} {s : tw_S} (V : tw_ci G l o ad h d mX3_allLines [.ref o] s (fun y2 s1 => (y2 < x2 → K x1 s1) ∧ (¬ y2 < x2 → (x1 = (-2 : Int32) → tw_ci G l o ad h d mX3_canLines [.ref o, .int x2] s1 (fun y4 s3 => (¬ y4 = 0 → tw_T G l o ad h d mX3_core (tw_qi G o ad h K) 22 [some (.ref o), some (.int x1), some (.int (x2 + (1 : Int32)))] [] s3) ∧ (y4 = 0 → tw_T G l o ad h d mX3_core (tw_qi G o ad h K) 22 [some (.ref o), some (.int x2), some (.int (x2 + (1 : Int32)))] [] s3))) ∧ (¬ x1 = (-2 : Int32) → tw_ci G l o ad h d mX3_bits [.int x2] s1 (fun y6 s5 => tw_ci G l o ad h d mX3_bits [.int x1] s5 (fun y8 s7 => (y8 ≤ y6 → tw_T G l o ad h d mX3_core (tw_qi G o ad h K) 22 [some (.ref o), some (.int x1), some (.int (x2 + (1 : Int32)))] [] s7) ∧ (¬ y8 ≤ y6 → tw_ci G l o ad h d mX3_canLines [.ref o, .int x2] s7 (fun y10 s9 => (¬ y10 = 0 → tw_T G l o ad h d mX3_core (tw_qi G o ad h K) 22 [some (.ref o), some (.int x1), some (.int (x2 + (1 : Int32)))] [] s9) ∧ (y10 = 0 → tw_T G l o ad h d mX3_core (tw_qi G o ad h K) 22 [some (.ref o), some (.int x2), some (.int (x2 + (1 : Int32)))] [] s9))))))))) : tw_T G l o ad h d mX3_core (tw_qi G o ad h K) 22 [some (.ref o), some (.int x1), some (.int x2)] [] s := by
  refine wq_iload_n (pc := 22) dX3_core_22 rfl rfl ?_
  refine wq_aload_n (pc := 23) dX3_core_23 rfl rfl ?_
  refine tcq2175 (pc := 24) (As := []) (st := [.int x2]) rfl dX3_core_24 rfl (Nat.le_of_ble_eq_true rfl) V (tw_ki (fun y2 s1 V => ?_))
  refine wq_icmp_gt (pc := 27) (tgt := 63) dX3_core_27 rfl (fun c => ?_) (fun c => ?_)
  · have V := V.1 c
    refine wq_iload_n (pc := 63) dX3_core_63 rfl rfl ?_
    refine wq_iret (pc := 64) dX3_core_64 rfl ⟨_, _, rfl, rfl, V⟩
  · have V := V.2 c
    refine wq_iload_n (pc := 30) dX3_core_30 rfl rfl ?_
    refine wq_bipush (pc := 31) dX3_core_31 cstbm2 ?_
    refine wq_icmp_eq (pc := 33) (tgt := 47) dX3_core_33 rfl (fun c => ?_) (fun c => ?_)
    · have V := V.1 c
      refine wq_aload_n (pc := 47) dX3_core_47 rfl rfl ?_
      refine wq_iload_n (pc := 48) dX3_core_48 rfl rfl ?_
      refine tcq2187 (pc := 49) (As := [.int x2]) (st := []) rfl dX3_core_49 rfl (Nat.le_of_ble_eq_true rfl) V (tw_ki (fun y4 s3 V => ?_))
      refine wq_if_ne (pc := 52) (tgt := 57) dX3_core_52 rfl (fun c => ?_) (fun c => ?_)
      · have V := V.1 c
        refine wq_iinc (L' := [some (.ref o), some (.int x1), some (.int (x2 + (1 : Int32)))]) (pc := 57) dX3_core_57 rfl (by rw [csti1]) (Nat.le_of_ble_eq_true rfl) rfl ?_
        refine wq_goto (pc := 60) (tgt := 22) dX3_core_60 rfl ?_
        exact V
      · have V := V.2 c
        refine wq_iload_n (pc := 55) dX3_core_55 rfl rfl ?_
        refine wq_istore_n (L' := [some (.ref o), some (.int x2), some (.int x2)]) (pc := 56) dX3_core_56 rfl (Nat.le_of_ble_eq_true rfl) rfl ?_
        refine wq_iinc (L' := [some (.ref o), some (.int x2), some (.int (x2 + (1 : Int32)))]) (pc := 57) dX3_core_57 rfl (by rw [csti1]) (Nat.le_of_ble_eq_true rfl) rfl ?_
        refine wq_goto (pc := 60) (tgt := 22) dX3_core_60 rfl ?_
        exact V
    · have V := V.2 c
      refine wq_iload_n (pc := 36) dX3_core_36 rfl rfl ?_
      refine tcq2107 (pc := 37) (As := [.int x2]) (st := []) rfl dX3_core_37 rfl (Nat.le_of_ble_eq_true rfl) V (tw_ki (fun y6 s5 V => ?_))
      refine wq_iload_n (pc := 40) dX3_core_40 rfl rfl ?_
      refine tcq2107 (pc := 41) (As := [.int x1]) (st := [.int y6]) rfl dX3_core_41 rfl (Nat.le_of_ble_eq_true rfl) V (tw_ki (fun y8 s7 V => ?_))
      refine wq_icmp_ge (pc := 44) (tgt := 57) dX3_core_44 rfl (fun c => ?_) (fun c => ?_)
      · have V := V.1 c
        refine wq_iinc (L' := [some (.ref o), some (.int x1), some (.int (x2 + (1 : Int32)))]) (pc := 57) dX3_core_57 rfl (by rw [csti1]) (Nat.le_of_ble_eq_true rfl) rfl ?_
        refine wq_goto (pc := 60) (tgt := 22) dX3_core_60 rfl ?_
        exact V
      · have V := V.2 c
        refine wq_aload_n (pc := 47) dX3_core_47 rfl rfl ?_
        refine wq_iload_n (pc := 48) dX3_core_48 rfl rfl ?_
        refine tcq2187 (pc := 49) (As := [.int x2]) (st := []) rfl dX3_core_49 rfl (Nat.le_of_ble_eq_true rfl) V (tw_ki (fun y10 s9 V => ?_))
        refine wq_if_ne (pc := 52) (tgt := 57) dX3_core_52 rfl (fun c => ?_) (fun c => ?_)
        · have V := V.1 c
          refine wq_iinc (L' := [some (.ref o), some (.int x1), some (.int (x2 + (1 : Int32)))]) (pc := 57) dX3_core_57 rfl (by rw [csti1]) (Nat.le_of_ble_eq_true rfl) rfl ?_
          refine wq_goto (pc := 60) (tgt := 22) dX3_core_60 rfl ?_
          exact V
        · have V := V.2 c
          refine wq_iload_n (pc := 55) dX3_core_55 rfl rfl ?_
          refine wq_istore_n (L' := [some (.ref o), some (.int x2), some (.int x2)]) (pc := 56) dX3_core_56 rfl (Nat.le_of_ble_eq_true rfl) rfl ?_
          refine wq_iinc (L' := [some (.ref o), some (.int x2), some (.int (x2 + (1 : Int32)))]) (pc := 57) dX3_core_57 rfl (by rw [csti1]) (Nat.le_of_ble_eq_true rfl) rfl ?_
          refine wq_goto (pc := 60) (tgt := 22) dX3_core_60 rfl ?_
          exact V
theorem vX3_canLines_0 {G : wq_G} {l : Launch} {o : Nat} {ad : Nat → Nat} {h : wq_H} {d : Nat} {K : Int32 → tw_S → Prop} (ok : tw_ok G o ad)  {x1 : Int32} {s : tw_S} (V : tw_T G l o ad h d mX3_canLines (tw_qi G o ad h K) 4 [some (.ref o), some (.int x1), some (.int (0 : Int32)), some (.int (0 : Int32))] [] s) : tw_T G l o ad h d mX3_canLines (tw_qi G o ad h K) 0 [some (.ref o), some (.int x1), none, none] [] s := by
  refine wq_iconst (pc := 0) dX3_canLines_0 csti0 ?_
  refine wq_istore_n (L' := [some (.ref o), some (.int x1), some (.int (0 : Int32)), none]) (pc := 1) dX3_canLines_1 rfl (Nat.le_of_ble_eq_true rfl) rfl ?_
  refine wq_iconst (pc := 2) dX3_canLines_2 csti0 ?_
  refine wq_istore_n (L' := [some (.ref o), some (.int x1), some (.int (0 : Int32)), some (.int (0 : Int32))]) (pc := 3) dX3_canLines_3 rfl (Nat.le_of_ble_eq_true rfl) rfl ?_
  exact V
theorem vX3_canLines_4 {G : wq_G} {l : Launch} {o : Nat} {ad : Nat → Nat} {h : wq_H} {d : Nat} {K : Int32 → tw_S → Prop} (ok : tw_ok G o ad)  {x1 : Int32} {x2 : Int32} {x3 : Int32} {s : tw_S} (V : tw_ld s 15 (51 : Int32) (fun y1 => (((1 : Int32) <<< (y1 &&& 31)) ≤ x3 → (x2 = 0 ∨ x2 = 1) ∧ K x2 s) ∧ (¬ ((1 : Int32) <<< (y1 &&& 31)) ≤ x3 → (¬ x2 = 0 → (x2 = 0 ∨ x2 = 1) ∧ K x2 s) ∧ (x2 = 0 → tw_ci G l o ad h d mX3_linesBy [.ref o, .int x3] s (fun y3 s2 => (¬ (x1 &&& (y3 ^^^ (-1 : Int32))) = 0 → tw_T G l o ad h d mX3_canLines (tw_qi G o ad h K) 4 [some (.ref o), some (.int x1), some (.int (0 : Int32)), some (.int (x3 + (1 : Int32)))] [] s2) ∧ ((x1 &&& (y3 ^^^ (-1 : Int32))) = 0 → tw_T G l o ad h d mX3_canLines (tw_qi G o ad h K) 4 [some (.ref o), some (.int x1), some (.int (1 : Int32)), some (.int (x3 + (1 : Int32)))] [] s2)))))) : tw_T G l o ad h d mX3_canLines (tw_qi G o ad h K) 4 [some (.ref o), some (.int x1), some (.int x2), some (.int x3)] [] s := by
  refine wq_iload_n (pc := 4) dX3_canLines_4 rfl rfl ?_
  refine wq_iconst (pc := 5) dX3_canLines_5 csti1 ?_
  refine wq_aload_n (pc := 6) dX3_canLines_6 rfl rfl ?_
  refine tg15 (pc := 7) rfl dX3_canLines_7 ?_
  refine wq_bipush (pc := 10) dX3_canLines_10 cstb51 ?_
  refine tw_iald' (pc := 12) ok mia15 dX3_canLines_12 V (fun y1 V => ?_)
  refine wq_ishl (pc := 13) dX3_canLines_13 ?_
  refine wq_icmp_ge (pc := 14) (tgt := 45) dX3_canLines_14 rfl (fun c => ?_) (fun c => ?_)
  · have V := V.1 c
    refine wq_iload_n (pc := 45) dX3_canLines_45 rfl rfl ?_
    refine wq_zret (pc := 46) dX3_canLines_46 rfl (tw_z V.1).1 ⟨_, _, rfl, rfl, V.2⟩
  · have V := V.2 c
    refine wq_iload_n (pc := 17) dX3_canLines_17 rfl rfl ?_
    refine wq_if_ne (pc := 18) (tgt := 45) dX3_canLines_18 rfl (fun c => ?_) (fun c => ?_)
    · have V := V.1 c
      refine wq_iload_n (pc := 45) dX3_canLines_45 rfl rfl ?_
      refine wq_zret (pc := 46) dX3_canLines_46 rfl (tw_z V.1).1 ⟨_, _, rfl, rfl, V.2⟩
    · have V := V.2 c
      refine wq_iload_n (pc := 21) dX3_canLines_21 rfl rfl ?_
      refine wq_aload_n (pc := 22) dX3_canLines_22 rfl rfl ?_
      refine wq_iload_n (pc := 23) dX3_canLines_23 rfl rfl ?_
      refine tcq2171 (pc := 24) (As := [.int x3]) (st := [.int x1]) rfl dX3_canLines_24 rfl (Nat.le_of_ble_eq_true rfl) V (tw_ki (fun y3 s2 V => ?_))
      refine wq_iconst (pc := 27) dX3_canLines_27 cstim1 ?_
      refine wq_ixor (pc := 28) dX3_canLines_28 ?_
      refine wq_iand (pc := 29) dX3_canLines_29 ?_
      refine wq_if_ne (pc := 30) (tgt := 37) dX3_canLines_30 rfl (fun c => ?_) (fun c => ?_)
      · have V := V.1 c
        refine wq_iconst (pc := 37) dX3_canLines_37 csti0 ?_
        refine wq_istore_n (L' := [some (.ref o), some (.int x1), some (.int (0 : Int32)), some (.int x3)]) (pc := 38) dX3_canLines_38 rfl (Nat.le_of_ble_eq_true rfl) rfl ?_
        refine wq_iinc (L' := [some (.ref o), some (.int x1), some (.int (0 : Int32)), some (.int (x3 + (1 : Int32)))]) (pc := 39) dX3_canLines_39 rfl (by rw [csti1]) (Nat.le_of_ble_eq_true rfl) rfl ?_
        refine wq_goto (pc := 42) (tgt := 4) dX3_canLines_42 rfl ?_
        exact V
      · have V := V.2 c
        refine wq_iconst (pc := 33) dX3_canLines_33 csti1 ?_
        refine wq_goto (pc := 34) (tgt := 38) dX3_canLines_34 rfl ?_
        refine wq_istore_n (L' := [some (.ref o), some (.int x1), some (.int (1 : Int32)), some (.int x3)]) (pc := 38) dX3_canLines_38 rfl (Nat.le_of_ble_eq_true rfl) rfl ?_
        refine wq_iinc (L' := [some (.ref o), some (.int x1), some (.int (1 : Int32)), some (.int (x3 + (1 : Int32)))]) (pc := 39) dX3_canLines_39 rfl (by rw [csti1]) (Nat.le_of_ble_eq_true rfl) rfl ?_
        refine wq_goto (pc := 42) (tgt := 4) dX3_canLines_42 rfl ?_
        exact V
theorem vX3_can_0 {G : wq_G} {l : Launch} {o : Nat} {ad : Nat → Nat} {h : wq_H} {d : Nat} {K : Int32 → tw_S → Prop} (ok : tw_ok G o ad)  {x1 : Int32} {s : tw_S} (V : tw_cv G l o ad h d mX3_good [.ref o] s (fun s1 => (¬ (s1.1 14) = 0 → tw_ci G l o ad h d mX3_allLines [.ref o] s1 (fun y3 s2 => tw_ci G l o ad h d mX3_within [.int x1, .int (0 : Int32), .int y3] s2 (fun y5 s4 => (y5 = 0 → tw_ci G l o ad h d mX3_no [.ref o, .int (2 : Int32)] s4 (fun y7 s6 => K y7 s6)) ∧ (¬ y5 = 0 → tw_ci G l o ad h d mX3_canLines [.ref o, .int x1] s4 (fun y9 s8 => (y9 = 0 → K (0 : Int32) s8) ∧ (¬ y9 = 0 → K (1 : Int32) s8)))))) ∧ ((s1.1 14) = 0 → tw_ci G l o ad h d mX3_no [.ref o, .int (1 : Int32)] s1 (fun y11 s10 => K y11 s10)))) : tw_T G l o ad h d mX3_can (tw_qi G o ad h K) 0 [some (.ref o), some (.int x1)] [] s := by
  refine wq_aload_n (pc := 0) dX3_can_0 rfl rfl ?_
  refine tcq1836 (pc := 1) (As := []) (st := []) rfl dX3_can_1 rfl (Nat.le_of_ble_eq_true rfl) V (tw_kv (fun s1 V => ?_))
  refine wq_aload_n (pc := 4) dX3_can_4 rfl rfl ?_
  refine tg14 (pc := 5) rfl dX3_can_5 ?_
  refine wq_if_ne (pc := 8) (tgt := 17) dX3_can_8 rfl (fun c => ?_) (fun c => ?_)
  · have V := V.1 c
    refine wq_iload_n (pc := 17) dX3_can_17 rfl rfl ?_
    refine wq_iconst (pc := 18) dX3_can_18 csti0 ?_
    refine wq_aload_n (pc := 19) dX3_can_19 rfl rfl ?_
    refine tcq2175 (pc := 20) (As := []) (st := [.int (0 : Int32), .int x1]) rfl dX3_can_20 rfl (Nat.le_of_ble_eq_true rfl) V (tw_ki (fun y3 s2 V => ?_))
    refine tcq1840 (pc := 23) (As := [.int x1, .int (0 : Int32), .int y3]) (st := []) rfl dX3_can_23 rfl (Nat.le_of_ble_eq_true rfl) V (tw_ki (fun y5 s4 V => ?_))
    refine wq_if_eq (pc := 26) (tgt := 45) dX3_can_26 rfl (fun c => ?_) (fun c => ?_)
    · have V := V.1 c
      refine wq_aload_n (pc := 45) dX3_can_45 rfl rfl ?_
      refine wq_iconst (pc := 46) dX3_can_46 csti2 ?_
      refine tcq1843 (pc := 47) (As := [.int (2 : Int32)]) (st := []) rfl dX3_can_47 rfl (Nat.le_of_ble_eq_true rfl) V (tw_ki (fun y7 s6 V => ?_))
      refine wq_iret (pc := 50) dX3_can_50 rfl ⟨_, _, rfl, rfl, V⟩
    · have V := V.2 c
      refine wq_aload_n (pc := 29) dX3_can_29 rfl rfl ?_
      refine wq_iload_n (pc := 30) dX3_can_30 rfl rfl ?_
      refine tcq2187 (pc := 31) (As := [.int x1]) (st := []) rfl dX3_can_31 rfl (Nat.le_of_ble_eq_true rfl) V (tw_ki (fun y9 s8 V => ?_))
      refine wq_if_eq (pc := 34) (tgt := 41) dX3_can_34 rfl (fun c => ?_) (fun c => ?_)
      · have V := V.1 c
        refine wq_iconst (pc := 41) dX3_can_41 csti0 ?_
        refine wq_goto (pc := 42) (tgt := 50) dX3_can_42 rfl ?_
        refine wq_iret (pc := 50) dX3_can_50 rfl ⟨_, _, rfl, rfl, V⟩
      · have V := V.2 c
        refine wq_iconst (pc := 37) dX3_can_37 csti1 ?_
        refine wq_goto (pc := 38) (tgt := 50) dX3_can_38 rfl ?_
        refine wq_iret (pc := 50) dX3_can_50 rfl ⟨_, _, rfl, rfl, V⟩
  · have V := V.2 c
    refine wq_aload_n (pc := 11) dX3_can_11 rfl rfl ?_
    refine wq_iconst (pc := 12) dX3_can_12 csti1 ?_
    refine tcq1843 (pc := 13) (As := [.int (1 : Int32)]) (st := []) rfl dX3_can_13 rfl (Nat.le_of_ble_eq_true rfl) V (tw_ki (fun y11 s10 V => ?_))
    refine wq_iret (pc := 16) dX3_can_16 rfl ⟨_, _, rfl, rfl, V⟩
theorem vX3_game_0 {G : wq_G} {l : Launch} {o : Nat} {ad : Nat → Nat} {h : wq_H} {d : Nat} {K : Int32 → tw_S → Prop} (ok : tw_ok G o ad)   {s : tw_S} (V : tw_cv G l o ad h d mX3_good [.ref o] s (fun s1 => (¬ (s1.1 14) = 0 → tw_T G l o ad h d mX3_game (tw_qi G o ad h K) 21 [some (.ref o), some (.int (0 : Int32)), some (.int (0 : Int32))] [] s1) ∧ ((s1.1 14) = 0 → tw_ci G l o ad h d mX3_no [.ref o, .int (1 : Int32)] s1 (fun y3 s2 => K y3 s2)))) : tw_T G l o ad h d mX3_game (tw_qi G o ad h K) 0 [some (.ref o), none, none] [] s := by
  refine wq_aload_n (pc := 0) dX3_game_0 rfl rfl ?_
  refine tcq1836 (pc := 1) (As := []) (st := []) rfl dX3_game_1 rfl (Nat.le_of_ble_eq_true rfl) V (tw_kv (fun s1 V => ?_))
  refine wq_aload_n (pc := 4) dX3_game_4 rfl rfl ?_
  refine tg14 (pc := 5) rfl dX3_game_5 ?_
  refine wq_if_ne (pc := 8) (tgt := 17) dX3_game_8 rfl (fun c => ?_) (fun c => ?_)
  · have V := V.1 c
    refine wq_iconst (pc := 17) dX3_game_17 csti0 ?_
    refine wq_istore_n (L' := [some (.ref o), some (.int (0 : Int32)), none]) (pc := 18) dX3_game_18 rfl (Nat.le_of_ble_eq_true rfl) rfl ?_
    refine wq_iconst (pc := 19) dX3_game_19 csti0 ?_
    refine wq_istore_n (L' := [some (.ref o), some (.int (0 : Int32)), some (.int (0 : Int32))]) (pc := 20) dX3_game_20 rfl (Nat.le_of_ble_eq_true rfl) rfl ?_
    exact V
  · have V := V.2 c
    refine wq_aload_n (pc := 11) dX3_game_11 rfl rfl ?_
    refine wq_iconst (pc := 12) dX3_game_12 csti1 ?_
    refine tcq1843 (pc := 13) (As := [.int (1 : Int32)]) (st := []) rfl dX3_game_13 rfl (Nat.le_of_ble_eq_true rfl) V (tw_ki (fun y3 s2 V => ?_))
    refine wq_iret (pc := 16) dX3_game_16 rfl ⟨_, _, rfl, rfl, V⟩
theorem vX3_game_21 {G : wq_G} {l : Launch} {o : Nat} {ad : Nat → Nat} {h : wq_H} {d : Nat} {K : Int32 → tw_S → Prop} (ok : tw_ok G o ad)  {x1 : Int32} {x2 : Int32} {s : tw_S} (V : tw_ld s 15 (51 : Int32) (fun y1 => (((1 : Int32) <<< (y1 &&& 31)) ≤ x2 → K x1 s) ∧ (¬ ((1 : Int32) <<< (y1 &&& 31)) ≤ x2 → tw_ci G l o ad h d mX3_linesBy [.ref o, .int x2] s (fun y3 s2 => tw_ci G l o ad h d mX3_bits [.int y3] s2 (fun y5 s4 => (y5 ≤ x1 → tw_T G l o ad h d mX3_game (tw_qi G o ad h K) 21 [some (.ref o), some (.int x1), some (.int (x2 + (1 : Int32)))] [] s4) ∧ (¬ y5 ≤ x1 → tw_ci G l o ad h d mX3_linesBy [.ref o, .int x2] s4 (fun y7 s6 => tw_ci G l o ad h d mX3_bits [.int y7] s6 (fun y9 s8 => tw_T G l o ad h d mX3_game (tw_qi G o ad h K) 21 [some (.ref o), some (.int y9), some (.int (x2 + (1 : Int32)))] [] s8)))))))) : tw_T G l o ad h d mX3_game (tw_qi G o ad h K) 21 [some (.ref o), some (.int x1), some (.int x2)] [] s := by
  refine wq_iload_n (pc := 21) dX3_game_21 rfl rfl ?_
  refine wq_iconst (pc := 22) dX3_game_22 csti1 ?_
  refine wq_aload_n (pc := 23) dX3_game_23 rfl rfl ?_
  refine tg15 (pc := 24) rfl dX3_game_24 ?_
  refine wq_bipush (pc := 27) dX3_game_27 cstb51 ?_
  refine tw_iald' (pc := 29) ok mia15 dX3_game_29 V (fun y1 V => ?_)
  refine wq_ishl (pc := 30) dX3_game_30 ?_
  refine wq_icmp_ge (pc := 31) (tgt := 65) dX3_game_31 rfl (fun c => ?_) (fun c => ?_)
  · have V := V.1 c
    refine wq_iload_n (pc := 65) dX3_game_65 rfl rfl ?_
    refine wq_iret (pc := 66) dX3_game_66 rfl ⟨_, _, rfl, rfl, V⟩
  · have V := V.2 c
    refine wq_aload_n (pc := 34) dX3_game_34 rfl rfl ?_
    refine wq_iload_n (pc := 35) dX3_game_35 rfl rfl ?_
    refine tcq2171 (pc := 36) (As := [.int x2]) (st := []) rfl dX3_game_36 rfl (Nat.le_of_ble_eq_true rfl) V (tw_ki (fun y3 s2 V => ?_))
    refine tcq2107 (pc := 39) (As := [.int y3]) (st := []) rfl dX3_game_39 rfl (Nat.le_of_ble_eq_true rfl) V (tw_ki (fun y5 s4 V => ?_))
    refine wq_iload_n (pc := 42) dX3_game_42 rfl rfl ?_
    refine wq_icmp_le (pc := 43) (tgt := 57) dX3_game_43 rfl (fun c => ?_) (fun c => ?_)
    · have V := V.1 c
      refine wq_iload_n (pc := 57) dX3_game_57 rfl rfl ?_
      refine wq_istore_n (L' := [some (.ref o), some (.int x1), some (.int x2)]) (pc := 58) dX3_game_58 rfl (Nat.le_of_ble_eq_true rfl) rfl ?_
      refine wq_iinc (L' := [some (.ref o), some (.int x1), some (.int (x2 + (1 : Int32)))]) (pc := 59) dX3_game_59 rfl (by rw [csti1]) (Nat.le_of_ble_eq_true rfl) rfl ?_
      refine wq_goto (pc := 62) (tgt := 21) dX3_game_62 rfl ?_
      exact V
    · have V := V.2 c
      refine wq_aload_n (pc := 46) dX3_game_46 rfl rfl ?_
      refine wq_iload_n (pc := 47) dX3_game_47 rfl rfl ?_
      refine tcq2171 (pc := 48) (As := [.int x2]) (st := []) rfl dX3_game_48 rfl (Nat.le_of_ble_eq_true rfl) V (tw_ki (fun y7 s6 V => ?_))
      refine tcq2107 (pc := 51) (As := [.int y7]) (st := []) rfl dX3_game_51 rfl (Nat.le_of_ble_eq_true rfl) V (tw_ki (fun y9 s8 V => ?_))
      refine wq_goto (pc := 54) (tgt := 58) dX3_game_54 rfl ?_
      refine wq_istore_n (L' := [some (.ref o), some (.int y9), some (.int x2)]) (pc := 58) dX3_game_58 rfl (Nat.le_of_ble_eq_true rfl) rfl ?_
      refine wq_iinc (L' := [some (.ref o), some (.int y9), some (.int (x2 + (1 : Int32)))]) (pc := 59) dX3_game_59 rfl (by rw [csti1]) (Nat.le_of_ble_eq_true rfl) rfl ?_
      refine wq_goto (pc := 62) (tgt := 21) dX3_game_62 rfl ?_
      exact V
theorem vX3_square_0 {G : wq_G} {l : Launch} {o : Nat} {ad : Nat → Nat} {h : wq_H} {d : Nat} {K : Int32 → tw_S → Prop} (ok : tw_ok G o ad)  {x1 : Int32} {x2 : Int32} {s : tw_S} (V : tw_cv G l o ad h d mX3_good [.ref o] s (fun s1 => tw_ci G l o ad h d mX3_isRay [.ref o, .int x1] s1 (fun y3 s2 => (y3 = 0 → tw_ci G l o ad h d mX3_no [.ref o, .int (1 : Int32)] s2 (fun y5 s4 => K y5 s4)) ∧ (¬ y3 = 0 → tw_ci G l o ad h d mX3_isRay [.ref o, .int x2] s2 (fun y7 s6 => (y7 = 0 → tw_ci G l o ad h d mX3_no [.ref o, .int (1 : Int32)] s6 (fun y9 s8 => K y9 s8)) ∧ (¬ y7 = 0 → (x1 = x2 → tw_ci G l o ad h d mX3_no [.ref o, .int (1 : Int32)] s6 (fun y11 s10 => K y11 s10)) ∧ (¬ x1 = x2 → tw_ci G l o ad h d mX3_areSquare [.ref o, .int x1, .int x2] s6 (fun y13 s12 => (y13 = 0 → K (0 : Int32) s12) ∧ (¬ y13 = 0 → K (1 : Int32) s12))))))))) : tw_T G l o ad h d mX3_square (tw_qi G o ad h K) 0 [some (.ref o), some (.int x1), some (.int x2)] [] s := by
  refine wq_aload_n (pc := 0) dX3_square_0 rfl rfl ?_
  refine tcq1836 (pc := 1) (As := []) (st := []) rfl dX3_square_1 rfl (Nat.le_of_ble_eq_true rfl) V (tw_kv (fun s1 V => ?_))
  refine wq_aload_n (pc := 4) dX3_square_4 rfl rfl ?_
  refine wq_iload_n (pc := 5) dX3_square_5 rfl rfl ?_
  refine tcq2203 (pc := 6) (As := [.int x1]) (st := []) rfl dX3_square_6 rfl (Nat.le_of_ble_eq_true rfl) V (tw_ki (fun y3 s2 V => ?_))
  refine wq_if_eq (pc := 9) (tgt := 42) dX3_square_9 rfl (fun c => ?_) (fun c => ?_)
  · have V := V.1 c
    refine wq_aload_n (pc := 42) dX3_square_42 rfl rfl ?_
    refine wq_iconst (pc := 43) dX3_square_43 csti1 ?_
    refine tcq1843 (pc := 44) (As := [.int (1 : Int32)]) (st := []) rfl dX3_square_44 rfl (Nat.le_of_ble_eq_true rfl) V (tw_ki (fun y5 s4 V => ?_))
    refine wq_iret (pc := 47) dX3_square_47 rfl ⟨_, _, rfl, rfl, V⟩
  · have V := V.2 c
    refine wq_aload_n (pc := 12) dX3_square_12 rfl rfl ?_
    refine wq_iload_n (pc := 13) dX3_square_13 rfl rfl ?_
    refine tcq2203 (pc := 14) (As := [.int x2]) (st := []) rfl dX3_square_14 rfl (Nat.le_of_ble_eq_true rfl) V (tw_ki (fun y7 s6 V => ?_))
    refine wq_if_eq (pc := 17) (tgt := 42) dX3_square_17 rfl (fun c => ?_) (fun c => ?_)
    · have V := V.1 c
      refine wq_aload_n (pc := 42) dX3_square_42 rfl rfl ?_
      refine wq_iconst (pc := 43) dX3_square_43 csti1 ?_
      refine tcq1843 (pc := 44) (As := [.int (1 : Int32)]) (st := []) rfl dX3_square_44 rfl (Nat.le_of_ble_eq_true rfl) V (tw_ki (fun y9 s8 V => ?_))
      refine wq_iret (pc := 47) dX3_square_47 rfl ⟨_, _, rfl, rfl, V⟩
    · have V := V.2 c
      refine wq_iload_n (pc := 20) dX3_square_20 rfl rfl ?_
      refine wq_iload_n (pc := 21) dX3_square_21 rfl rfl ?_
      refine wq_icmp_eq (pc := 22) (tgt := 42) dX3_square_22 rfl (fun c => ?_) (fun c => ?_)
      · have V := V.1 c
        refine wq_aload_n (pc := 42) dX3_square_42 rfl rfl ?_
        refine wq_iconst (pc := 43) dX3_square_43 csti1 ?_
        refine tcq1843 (pc := 44) (As := [.int (1 : Int32)]) (st := []) rfl dX3_square_44 rfl (Nat.le_of_ble_eq_true rfl) V (tw_ki (fun y11 s10 V => ?_))
        refine wq_iret (pc := 47) dX3_square_47 rfl ⟨_, _, rfl, rfl, V⟩
      · have V := V.2 c
        refine wq_aload_n (pc := 25) dX3_square_25 rfl rfl ?_
        refine wq_iload_n (pc := 26) dX3_square_26 rfl rfl ?_
        refine wq_iload_n (pc := 27) dX3_square_27 rfl rfl ?_
        refine tcq2207 (pc := 28) (As := [.int x1, .int x2]) (st := []) rfl dX3_square_28 rfl (Nat.le_of_ble_eq_true rfl) V (tw_ki (fun y13 s12 V => ?_))
        refine wq_if_eq (pc := 31) (tgt := 38) dX3_square_31 rfl (fun c => ?_) (fun c => ?_)
        · have V := V.1 c
          refine wq_iconst (pc := 38) dX3_square_38 csti0 ?_
          refine wq_goto (pc := 39) (tgt := 47) dX3_square_39 rfl ?_
          refine wq_iret (pc := 47) dX3_square_47 rfl ⟨_, _, rfl, rfl, V⟩
        · have V := V.2 c
          refine wq_iconst (pc := 34) dX3_square_34 csti1 ?_
          refine wq_goto (pc := 35) (tgt := 47) dX3_square_35 rfl ?_
          refine wq_iret (pc := 47) dX3_square_47 rfl ⟨_, _, rfl, rfl, V⟩
theorem vX3_isRay_0 {G : wq_G} {l : Launch} {o : Nat} {ad : Nat → Nat} {h : wq_H} {d : Nat} {K : Int32 → tw_S → Prop} (ok : tw_ok G o ad)  {x1 : Int32} {s : tw_S} (V : ((s.1 14) = 0 → K (0 : Int32) s) ∧ (¬ (s.1 14) = 0 → tw_ld s 15 (85 : Int32) (fun y1 => tw_ci G l o ad h d mX3_within [.int x1, .int (0 : Int32), .int (y1 - (1 : Int32))] s (fun y3 s2 => (y3 = 0 → K (0 : Int32) s2) ∧ (¬ y3 = 0 → K (1 : Int32) s2))))) : tw_T G l o ad h d mX3_isRay (tw_qi G o ad h K) 0 [some (.ref o), some (.int x1)] [] s := by
  refine wq_aload_n (pc := 0) dX3_isRay_0 rfl rfl ?_
  refine tg14 (pc := 1) rfl dX3_isRay_1 ?_
  refine wq_if_eq (pc := 4) (tgt := 28) dX3_isRay_4 rfl (fun c => ?_) (fun c => ?_)
  · have V := V.1 c
    refine wq_iconst (pc := 28) dX3_isRay_28 csti0 ?_
    refine wq_zret (pc := 29) dX3_isRay_29 rfl tw_nb0 ⟨_, _, rfl, rfl, V⟩
  · have V := V.2 c
    refine wq_iload_n (pc := 7) dX3_isRay_7 rfl rfl ?_
    refine wq_iconst (pc := 8) dX3_isRay_8 csti0 ?_
    refine wq_aload_n (pc := 9) dX3_isRay_9 rfl rfl ?_
    refine tg15 (pc := 10) rfl dX3_isRay_10 ?_
    refine wq_bipush (pc := 13) dX3_isRay_13 cstb85 ?_
    refine tw_iald' (pc := 15) ok mia15 dX3_isRay_15 V (fun y1 V => ?_)
    refine wq_iconst (pc := 16) dX3_isRay_16 csti1 ?_
    refine wq_isub (pc := 17) dX3_isRay_17 ?_
    refine tcq1840 (pc := 18) (As := [.int x1, .int (0 : Int32), .int (y1 - (1 : Int32))]) (st := []) rfl dX3_isRay_18 rfl (Nat.le_of_ble_eq_true rfl) V (tw_ki (fun y3 s2 V => ?_))
    refine wq_if_eq (pc := 21) (tgt := 28) dX3_isRay_21 rfl (fun c => ?_) (fun c => ?_)
    · have V := V.1 c
      refine wq_iconst (pc := 28) dX3_isRay_28 csti0 ?_
      refine wq_zret (pc := 29) dX3_isRay_29 rfl tw_nb0 ⟨_, _, rfl, rfl, V⟩
    · have V := V.2 c
      refine wq_iconst (pc := 24) dX3_isRay_24 csti1 ?_
      refine wq_goto (pc := 25) (tgt := 29) dX3_isRay_25 rfl ?_
      refine wq_zret (pc := 29) dX3_isRay_29 rfl tw_nb1 ⟨_, _, rfl, rfl, V⟩
theorem vX3_areSquare_0 {G : wq_G} {l : Launch} {o : Nat} {ad : Nat → Nat} {h : wq_H} {d : Nat} {K : Int32 → tw_S → Prop} (ok : tw_ok G o ad)  {x1 : Int32} {x2 : Int32} {s : tw_S} (V : tw_T G l o ad h d mX3_areSquare (tw_qi G o ad h K) 5 [some (.ref o), some (.int x1), some (.int x2), some (.int (0 : Int32)), some (.int (0 : Int32))] [] s) : tw_T G l o ad h d mX3_areSquare (tw_qi G o ad h K) 0 [some (.ref o), some (.int x1), some (.int x2), none, none] [] s := by
  refine wq_iconst (pc := 0) dX3_areSquare_0 csti0 ?_
  refine wq_istore_n (L' := [some (.ref o), some (.int x1), some (.int x2), some (.int (0 : Int32)), none]) (pc := 1) dX3_areSquare_1 rfl (Nat.le_of_ble_eq_true rfl) rfl ?_
  refine wq_iconst (pc := 2) dX3_areSquare_2 csti0 ?_
  refine wq_istore (L' := [some (.ref o), some (.int x1), some (.int x2), some (.int (0 : Int32)), some (.int (0 : Int32))]) (pc := 3) dX3_areSquare_3 (Nat.le_of_ble_eq_true rfl) rfl ?_
  exact V
theorem vX3_areSquare_5 {G : wq_G} {l : Launch} {o : Nat} {ad : Nat → Nat} {h : wq_H} {d : Nat} {K : Int32 → tw_S → Prop} (ok : tw_ok G o ad)  {x1 : Int32} {x2 : Int32} {x3 : Int32} {x4 : Int32} {s : tw_S} (V : ((4 : Int32) ≤ x4 → (¬ x3 = 0 → K (0 : Int32) s) ∧ (x3 = 0 → K (1 : Int32) s)) ∧ (¬ (4 : Int32) ≤ x4 → tw_ld s 15 (((86 : Int32) + ((4 : Int32) * x1)) + x4) (fun y1 => tw_ld s 15 (((86 : Int32) + ((4 : Int32) * x2)) + x4) (fun y2 => tw_T G l o ad h d mX3_areSquare (tw_qi G o ad h K) 5 [some (.ref o), some (.int x1), some (.int x2), some (.int (x3 + (y1 * y2))), some (.int (x4 + (1 : Int32)))] [] s)))) : tw_T G l o ad h d mX3_areSquare (tw_qi G o ad h K) 5 [some (.ref o), some (.int x1), some (.int x2), some (.int x3), some (.int x4)] [] s := by
  refine wq_iload (pc := 5) dX3_areSquare_5 rfl ?_
  refine wq_iconst (pc := 7) dX3_areSquare_7 csti4 ?_
  refine wq_icmp_ge (pc := 8) (tgt := 49) dX3_areSquare_8 rfl (fun c => ?_) (fun c => ?_)
  · have V := V.1 c
    refine wq_iload_n (pc := 49) dX3_areSquare_49 rfl rfl ?_
    refine wq_if_ne (pc := 50) (tgt := 57) dX3_areSquare_50 rfl (fun c => ?_) (fun c => ?_)
    · have V := V.1 c
      refine wq_iconst (pc := 57) dX3_areSquare_57 csti0 ?_
      refine wq_zret (pc := 58) dX3_areSquare_58 rfl tw_nb0 ⟨_, _, rfl, rfl, V⟩
    · have V := V.2 c
      refine wq_iconst (pc := 53) dX3_areSquare_53 csti1 ?_
      refine wq_goto (pc := 54) (tgt := 58) dX3_areSquare_54 rfl ?_
      refine wq_zret (pc := 58) dX3_areSquare_58 rfl tw_nb1 ⟨_, _, rfl, rfl, V⟩
  · have V := V.2 c
    refine wq_iload_n (pc := 11) dX3_areSquare_11 rfl rfl ?_
    refine wq_aload_n (pc := 12) dX3_areSquare_12 rfl rfl ?_
    refine tg15 (pc := 13) rfl dX3_areSquare_13 ?_
    refine wq_bipush (pc := 16) dX3_areSquare_16 cstb86 ?_
    refine wq_iconst (pc := 18) dX3_areSquare_18 csti4 ?_
    refine wq_iload_n (pc := 19) dX3_areSquare_19 rfl rfl ?_
    refine wq_imul (pc := 20) dX3_areSquare_20 ?_
    refine wq_iadd (pc := 21) dX3_areSquare_21 ?_
    refine wq_iload (pc := 22) dX3_areSquare_22 rfl ?_
    refine wq_iadd (pc := 24) dX3_areSquare_24 ?_
    refine tw_iald' (pc := 25) ok mia15 dX3_areSquare_25 V (fun y1 V => ?_)
    refine wq_aload_n (pc := 26) dX3_areSquare_26 rfl rfl ?_
    refine tg15 (pc := 27) rfl dX3_areSquare_27 ?_
    refine wq_bipush (pc := 30) dX3_areSquare_30 cstb86 ?_
    refine wq_iconst (pc := 32) dX3_areSquare_32 csti4 ?_
    refine wq_iload_n (pc := 33) dX3_areSquare_33 rfl rfl ?_
    refine wq_imul (pc := 34) dX3_areSquare_34 ?_
    refine wq_iadd (pc := 35) dX3_areSquare_35 ?_
    refine wq_iload (pc := 36) dX3_areSquare_36 rfl ?_
    refine wq_iadd (pc := 38) dX3_areSquare_38 ?_
    refine tw_iald' (pc := 39) ok mia15 dX3_areSquare_39 V (fun y2 V => ?_)
    refine wq_imul (pc := 40) dX3_areSquare_40 ?_
    refine wq_iadd (pc := 41) dX3_areSquare_41 ?_
    refine wq_istore_n (L' := [some (.ref o), some (.int x1), some (.int x2), some (.int (x3 + (y1 * y2))), some (.int x4)]) (pc := 42) dX3_areSquare_42 rfl (Nat.le_of_ble_eq_true rfl) rfl ?_
    refine wq_iinc (L' := [some (.ref o), some (.int x1), some (.int x2), some (.int (x3 + (y1 * y2))), some (.int (x4 + (1 : Int32)))]) (pc := 43) dX3_areSquare_43 rfl (by rw [csti1]) (Nat.le_of_ble_eq_true rfl) rfl ?_
    refine wq_goto (pc := 46) (tgt := 5) dX3_areSquare_46 rfl ?_
    exact V
theorem vX3_corners_0 {G : wq_G} {l : Launch} {o : Nat} {ad : Nat → Nat} {h : wq_H} {d : Nat} {K : Int32 → tw_S → Prop} (ok : tw_ok G o ad)   {s : tw_S} (V : tw_cv G l o ad h d mX3_good [.ref o] s (fun s1 => (¬ (s1.1 14) = 0 → tw_cv G l o ad h d mX3_layCorners [.ref o] s1 (fun s2 => K (s2.1 34) s2)) ∧ ((s1.1 14) = 0 → tw_ci G l o ad h d mX3_no [.ref o, .int (1 : Int32)] s1 (fun y4 s3 => K y4 s3)))) : tw_T G l o ad h d mX3_corners (tw_qi G o ad h K) 0 [some (.ref o)] [] s := by
  refine wq_aload_n (pc := 0) dX3_corners_0 rfl rfl ?_
  refine tcq1836 (pc := 1) (As := []) (st := []) rfl dX3_corners_1 rfl (Nat.le_of_ble_eq_true rfl) V (tw_kv (fun s1 V => ?_))
  refine wq_aload_n (pc := 4) dX3_corners_4 rfl rfl ?_
  refine tg14 (pc := 5) rfl dX3_corners_5 ?_
  refine wq_if_ne (pc := 8) (tgt := 17) dX3_corners_8 rfl (fun c => ?_) (fun c => ?_)
  · have V := V.1 c
    refine wq_aload_n (pc := 17) dX3_corners_17 rfl rfl ?_
    refine tcq2215 (pc := 18) (As := []) (st := []) rfl dX3_corners_18 rfl (Nat.le_of_ble_eq_true rfl) V (tw_kv (fun s2 V => ?_))
    refine wq_aload_n (pc := 21) dX3_corners_21 rfl rfl ?_
    refine tg34 (pc := 22) rfl dX3_corners_22 ?_
    refine wq_iret (pc := 25) dX3_corners_25 rfl ⟨_, _, rfl, rfl, V⟩
  · have V := V.2 c
    refine wq_aload_n (pc := 11) dX3_corners_11 rfl rfl ?_
    refine wq_iconst (pc := 12) dX3_corners_12 csti1 ?_
    refine tcq1843 (pc := 13) (As := [.int (1 : Int32)]) (st := []) rfl dX3_corners_13 rfl (Nat.le_of_ble_eq_true rfl) V (tw_ki (fun y4 s3 V => ?_))
    refine wq_iret (pc := 16) dX3_corners_16 rfl ⟨_, _, rfl, rfl, V⟩
theorem vX3_layCorners_0 {G : wq_G} {l : Launch} {o : Nat} {ad : Nat → Nat} {h : wq_H} {d : Nat} {K : tw_S → Prop} (ok : tw_ok G o ad)   {s : tw_S} (V : tw_pt s 34 (0 : Int32) (fun s1 => tw_T G l o ad h d mX3_layCorners (tw_qv G o ad h K) 7 [some (.ref o), some (.int (0 : Int32)), none, none, none] [] s1)) : tw_T G l o ad h d mX3_layCorners (tw_qv G o ad h K) 0 [some (.ref o), none, none, none, none] [] s := by
  refine wq_aload_n (pc := 0) dX3_layCorners_0 rfl rfl ?_
  refine wq_iconst (pc := 1) dX3_layCorners_1 csti0 ?_
  refine tp34 (pc := 2) rfl ok dX3_layCorners_2 V (fun s1 V => ?_)
  refine wq_iconst (pc := 5) dX3_layCorners_5 csti0 ?_
  refine wq_istore_n (L' := [some (.ref o), some (.int (0 : Int32)), none, none, none]) (pc := 6) dX3_layCorners_6 rfl (Nat.le_of_ble_eq_true rfl) rfl ?_
  exact V
theorem vX3_layCorners_7 {G : wq_G} {l : Launch} {o : Nat} {ad : Nat → Nat} {h : wq_H} {d : Nat} {K : tw_S → Prop} (ok : tw_ok G o ad)  {x1 : Int32} {s : tw_S} (V : tw_ld s 15 (85 : Int32) (fun y1 => (y1 ≤ x1 → tw_T G l o ad h d mX3_layCorners (tw_qv G o ad h K) 82 [some (.ref o), some (.int (0 : Int32)), none, none, none] [] s) ∧ (¬ y1 ≤ x1 → tw_st s 33 x1 (0 : Int32) (fun s2 => tw_T G l o ad h d mX3_layCorners (tw_qv G o ad h K) 27 [some (.ref o), some (.int x1), some (.int (0 : Int32)), none, none] [] s2)))) : tw_T G l o ad h d mX3_layCorners (tw_qv G o ad h K) 7 [some (.ref o), some (.int x1), none, none, none] [] s := by
  refine wq_iload_n (pc := 7) dX3_layCorners_7 rfl rfl ?_
  refine wq_aload_n (pc := 8) dX3_layCorners_8 rfl rfl ?_
  refine tg15 (pc := 9) rfl dX3_layCorners_9 ?_
  refine wq_bipush (pc := 12) dX3_layCorners_12 cstb85 ?_
  refine tw_iald' (pc := 14) ok mia15 dX3_layCorners_14 V (fun y1 V => ?_)
  refine wq_icmp_ge (pc := 15) (tgt := 80) dX3_layCorners_15 rfl (fun c => ?_) (fun c => ?_)
  · have V := V.1 c
    refine wq_iconst (pc := 80) dX3_layCorners_80 csti0 ?_
    refine wq_istore_n (L' := [some (.ref o), some (.int (0 : Int32)), none, none, none]) (pc := 81) dX3_layCorners_81 rfl (Nat.le_of_ble_eq_true rfl) rfl ?_
    exact V
  · have V := V.2 c
    refine wq_aload_n (pc := 18) dX3_layCorners_18 rfl rfl ?_
    refine tg33 (pc := 19) rfl dX3_layCorners_19 ?_
    refine wq_iload_n (pc := 22) dX3_layCorners_22 rfl rfl ?_
    refine wq_iconst (pc := 23) dX3_layCorners_23 csti0 ?_
    refine tw_iast' (pc := 24) ok mia33 dX3_layCorners_24 V (fun s2 V => ?_)
    refine wq_iconst (pc := 25) dX3_layCorners_25 csti0 ?_
    refine wq_istore_n (L' := [some (.ref o), some (.int x1), some (.int (0 : Int32)), none, none]) (pc := 26) dX3_layCorners_26 rfl (Nat.le_of_ble_eq_true rfl) rfl ?_
    exact V
theorem vX3_layCorners_27 {G : wq_G} {l : Launch} {o : Nat} {ad : Nat → Nat} {h : wq_H} {d : Nat} {K : tw_S → Prop} (ok : tw_ok G o ad)  {x1 : Int32} {x2 : Int32} {s : tw_S} (V : tw_ld s 15 (85 : Int32) (fun y1 => (y1 ≤ x2 → tw_T G l o ad h d mX3_layCorners (tw_qv G o ad h K) 7 [some (.ref o), some (.int (x1 + (1 : Int32))), none, none, none] [] s) ∧ (¬ y1 ≤ x2 → tw_ld s 33 x1 (fun y2 => (x1 = x2 → tw_st s 33 x1 (y2 ||| (0 : Int32)) (fun s3 => tw_T G l o ad h d mX3_layCorners (tw_qv G o ad h K) 27 [some (.ref o), some (.int x1), some (.int (x2 + (1 : Int32))), none, none] [] s3)) ∧ (¬ x1 = x2 → tw_ci G l o ad h d mX3_areSquare [.ref o, .int x1, .int x2] s (fun y5 s4 => (y5 = 0 → tw_st s4 33 x1 (y2 ||| (0 : Int32)) (fun s6 => tw_T G l o ad h d mX3_layCorners (tw_qv G o ad h K) 27 [some (.ref o), some (.int x1), some (.int (x2 + (1 : Int32))), none, none] [] s6)) ∧ (¬ y5 = 0 → tw_st s4 33 x1 (y2 ||| ((1 : Int32) <<< (x2 &&& 31))) (fun s7 => tw_T G l o ad h d mX3_layCorners (tw_qv G o ad h K) 27 [some (.ref o), some (.int x1), some (.int (x2 + (1 : Int32))), none, none] [] s7)))))))) : tw_T G l o ad h d mX3_layCorners (tw_qv G o ad h K) 27 [some (.ref o), some (.int x1), some (.int x2), none, none] [] s := by
  refine wq_iload_n (pc := 27) dX3_layCorners_27 rfl rfl ?_
  refine wq_aload_n (pc := 28) dX3_layCorners_28 rfl rfl ?_
  refine tg15 (pc := 29) rfl dX3_layCorners_29 ?_
  refine wq_bipush (pc := 32) dX3_layCorners_32 cstb85 ?_
  refine tw_iald' (pc := 34) ok mia15 dX3_layCorners_34 V (fun y1 V => ?_)
  refine wq_icmp_ge (pc := 35) (tgt := 74) dX3_layCorners_35 rfl (fun c => ?_) (fun c => ?_)
  · have V := V.1 c
    refine wq_iinc (L' := [some (.ref o), some (.int (x1 + (1 : Int32))), some (.int x2), none, none]) (pc := 74) dX3_layCorners_74 rfl (by rw [csti1]) (Nat.le_of_ble_eq_true rfl) rfl ?_
    refine wq_goto (pc := 77) (tgt := 7) dX3_layCorners_77 rfl ?_
    exact wq_T.less V ⟨rfl, ⟨rfl, trivial⟩⟩
  · have V := V.2 c
    refine wq_aload_n (pc := 38) dX3_layCorners_38 rfl rfl ?_
    refine tg33 (pc := 39) rfl dX3_layCorners_39 ?_
    refine wq_iload_n (pc := 42) dX3_layCorners_42 rfl rfl ?_
    refine wq_dup2 (pc := 43) dX3_layCorners_43 rfl rfl ?_
    refine tw_iald' (pc := 44) ok mia33 dX3_layCorners_44 V (fun y2 V => ?_)
    refine wq_iload_n (pc := 45) dX3_layCorners_45 rfl rfl ?_
    refine wq_iload_n (pc := 46) dX3_layCorners_46 rfl rfl ?_
    refine wq_icmp_eq (pc := 47) (tgt := 65) dX3_layCorners_47 rfl (fun c => ?_) (fun c => ?_)
    · have V := V.1 c
      refine wq_iconst (pc := 65) dX3_layCorners_65 csti0 ?_
      refine wq_ior (pc := 66) dX3_layCorners_66 ?_
      refine tw_iast' (pc := 67) ok mia33 dX3_layCorners_67 V (fun s3 V => ?_)
      refine wq_iinc (L' := [some (.ref o), some (.int x1), some (.int (x2 + (1 : Int32))), none, none]) (pc := 68) dX3_layCorners_68 rfl (by rw [csti1]) (Nat.le_of_ble_eq_true rfl) rfl ?_
      refine wq_goto (pc := 71) (tgt := 27) dX3_layCorners_71 rfl ?_
      exact V
    · have V := V.2 c
      refine wq_aload_n (pc := 50) dX3_layCorners_50 rfl rfl ?_
      refine wq_iload_n (pc := 51) dX3_layCorners_51 rfl rfl ?_
      refine wq_iload_n (pc := 52) dX3_layCorners_52 rfl rfl ?_
      refine tcq2207 (pc := 53) (As := [.int x1, .int x2]) (st := [.int y2, .int x1, .ref (ad 33)]) rfl dX3_layCorners_53 rfl (Nat.le_of_ble_eq_true rfl) V (tw_ki (fun y5 s4 V => ?_))
      refine wq_if_eq (pc := 56) (tgt := 65) dX3_layCorners_56 rfl (fun c => ?_) (fun c => ?_)
      · have V := V.1 c
        refine wq_iconst (pc := 65) dX3_layCorners_65 csti0 ?_
        refine wq_ior (pc := 66) dX3_layCorners_66 ?_
        refine tw_iast' (pc := 67) ok mia33 dX3_layCorners_67 V (fun s6 V => ?_)
        refine wq_iinc (L' := [some (.ref o), some (.int x1), some (.int (x2 + (1 : Int32))), none, none]) (pc := 68) dX3_layCorners_68 rfl (by rw [csti1]) (Nat.le_of_ble_eq_true rfl) rfl ?_
        refine wq_goto (pc := 71) (tgt := 27) dX3_layCorners_71 rfl ?_
        exact V
      · have V := V.2 c
        refine wq_iconst (pc := 59) dX3_layCorners_59 csti1 ?_
        refine wq_iload_n (pc := 60) dX3_layCorners_60 rfl rfl ?_
        refine wq_ishl (pc := 61) dX3_layCorners_61 ?_
        refine wq_goto (pc := 62) (tgt := 66) dX3_layCorners_62 rfl ?_
        refine wq_ior (pc := 66) dX3_layCorners_66 ?_
        refine tw_iast' (pc := 67) ok mia33 dX3_layCorners_67 V (fun s7 V => ?_)
        refine wq_iinc (L' := [some (.ref o), some (.int x1), some (.int (x2 + (1 : Int32))), none, none]) (pc := 68) dX3_layCorners_68 rfl (by rw [csti1]) (Nat.le_of_ble_eq_true rfl) rfl ?_
        refine wq_goto (pc := 71) (tgt := 27) dX3_layCorners_71 rfl ?_
        exact V
theorem vX3_layCorners_82 {G : wq_G} {l : Launch} {o : Nat} {ad : Nat → Nat} {h : wq_H} {d : Nat} {K : tw_S → Prop} (ok : tw_ok G o ad)  {x1 : Int32} {s : tw_S} (V : tw_ld s 15 (85 : Int32) (fun y1 => (y1 ≤ x1 → K s) ∧ (¬ y1 ≤ x1 → tw_T G l o ad h d mX3_layCorners (tw_qv G o ad h K) 97 [some (.ref o), some (.int x1), some (.int (x1 + (1 : Int32))), none, none] [] s))) : tw_T G l o ad h d mX3_layCorners (tw_qv G o ad h K) 82 [some (.ref o), some (.int x1), none, none, none] [] s := by
  refine wq_iload_n (pc := 82) dX3_layCorners_82 rfl rfl ?_
  refine wq_aload_n (pc := 83) dX3_layCorners_83 rfl rfl ?_
  refine tg15 (pc := 84) rfl dX3_layCorners_84 ?_
  refine wq_bipush (pc := 87) dX3_layCorners_87 cstb85 ?_
  refine tw_iald' (pc := 89) ok mia15 dX3_layCorners_89 V (fun y1 V => ?_)
  refine wq_icmp_ge (pc := 90) (tgt := 269) dX3_layCorners_90 rfl (fun c => ?_) (fun c => ?_)
  · have V := V.1 c
    refine wq_vret (pc := 269) dX3_layCorners_269 rfl ⟨_, rfl, rfl, V⟩
  · have V := V.2 c
    refine wq_iload_n (pc := 93) dX3_layCorners_93 rfl rfl ?_
    refine wq_iconst (pc := 94) dX3_layCorners_94 csti1 ?_
    refine wq_iadd (pc := 95) dX3_layCorners_95 ?_
    refine wq_istore_n (L' := [some (.ref o), some (.int x1), some (.int (x1 + (1 : Int32))), none, none]) (pc := 96) dX3_layCorners_96 rfl (Nat.le_of_ble_eq_true rfl) rfl ?_
    exact V
theorem vX3_layCorners_97 {G : wq_G} {l : Launch} {o : Nat} {ad : Nat → Nat} {h : wq_H} {d : Nat} {K : tw_S → Prop} (ok : tw_ok G o ad)  {x1 : Int32} {x2 : Int32} {s : tw_S} (V : tw_ld s 15 (85 : Int32) (fun y1 => (y1 ≤ x2 → tw_T G l o ad h d mX3_layCorners (tw_qv G o ad h K) 82 [some (.ref o), some (.int (x1 + (1 : Int32))), none, none, none] [] s) ∧ (¬ y1 ≤ x2 → tw_ld s 33 x1 (fun y2 => tw_ci G l o ad h d mX3_has [.int y2, .int x2] s (fun y4 s3 => (¬ y4 = 0 → tw_T G l o ad h d mX3_layCorners (tw_qv G o ad h K) 128 [some (.ref o), some (.int x1), some (.int x2), some (.int (x2 + (1 : Int32))), none] [] s3) ∧ (y4 = 0 → tw_T G l o ad h d mX3_layCorners (tw_qv G o ad h K) 97 [some (.ref o), some (.int x1), some (.int (x2 + (1 : Int32))), none, none] [] s3)))))) : tw_T G l o ad h d mX3_layCorners (tw_qv G o ad h K) 97 [some (.ref o), some (.int x1), some (.int x2), none, none] [] s := by
  refine wq_iload_n (pc := 97) dX3_layCorners_97 rfl rfl ?_
  refine wq_aload_n (pc := 98) dX3_layCorners_98 rfl rfl ?_
  refine tg15 (pc := 99) rfl dX3_layCorners_99 ?_
  refine wq_bipush (pc := 102) dX3_layCorners_102 cstb85 ?_
  refine tw_iald' (pc := 104) ok mia15 dX3_layCorners_104 V (fun y1 V => ?_)
  refine wq_icmp_ge (pc := 105) (tgt := 263) dX3_layCorners_105 rfl (fun c => ?_) (fun c => ?_)
  · have V := V.1 c
    refine wq_iinc (L' := [some (.ref o), some (.int (x1 + (1 : Int32))), some (.int x2), none, none]) (pc := 263) dX3_layCorners_263 rfl (by rw [csti1]) (Nat.le_of_ble_eq_true rfl) rfl ?_
    refine wq_goto (pc := 266) (tgt := 82) dX3_layCorners_266 rfl ?_
    exact wq_T.less V ⟨rfl, ⟨rfl, trivial⟩⟩
  · have V := V.2 c
    refine wq_aload_n (pc := 108) dX3_layCorners_108 rfl rfl ?_
    refine tg33 (pc := 109) rfl dX3_layCorners_109 ?_
    refine wq_iload_n (pc := 112) dX3_layCorners_112 rfl rfl ?_
    refine tw_iald' (pc := 113) ok mia33 dX3_layCorners_113 V (fun y2 V => ?_)
    refine wq_iload_n (pc := 114) dX3_layCorners_114 rfl rfl ?_
    refine tcq1948 (pc := 115) (As := [.int y2, .int x2]) (st := []) rfl dX3_layCorners_115 rfl (Nat.le_of_ble_eq_true rfl) V (tw_ki (fun y4 s3 V => ?_))
    refine wq_if_ne (pc := 118) (tgt := 124) dX3_layCorners_118 rfl (fun c => ?_) (fun c => ?_)
    · have V := V.1 c
      refine wq_iload_n (pc := 124) dX3_layCorners_124 rfl rfl ?_
      refine wq_iconst (pc := 125) dX3_layCorners_125 csti1 ?_
      refine wq_iadd (pc := 126) dX3_layCorners_126 ?_
      refine wq_istore_n (L' := [some (.ref o), some (.int x1), some (.int x2), some (.int (x2 + (1 : Int32))), none]) (pc := 127) dX3_layCorners_127 rfl (Nat.le_of_ble_eq_true rfl) rfl ?_
      exact V
    · have V := V.2 c
      refine wq_goto (pc := 121) (tgt := 257) dX3_layCorners_121 rfl ?_
      refine wq_iinc (L' := [some (.ref o), some (.int x1), some (.int (x2 + (1 : Int32))), none, none]) (pc := 257) dX3_layCorners_257 rfl (by rw [csti1]) (Nat.le_of_ble_eq_true rfl) rfl ?_
      refine wq_goto (pc := 260) (tgt := 97) dX3_layCorners_260 rfl ?_
      exact V
theorem vX3_layCorners_128 {G : wq_G} {l : Launch} {o : Nat} {ad : Nat → Nat} {h : wq_H} {d : Nat} {K : tw_S → Prop} (ok : tw_ok G o ad)  {x1 : Int32} {x2 : Int32} {x3 : Int32} {s : tw_S} (V : tw_ld s 15 (85 : Int32) (fun y1 => (y1 ≤ x3 → tw_T G l o ad h d mX3_layCorners (tw_qv G o ad h K) 97 [some (.ref o), some (.int x1), some (.int (x2 + (1 : Int32))), none, none] [] s) ∧ (¬ y1 ≤ x3 → tw_ld s 33 x1 (fun y2 => tw_ld s 33 x2 (fun y3 => tw_ci G l o ad h d mX3_has [.int (y2 &&& y3), .int x3] s (fun y5 s4 => (¬ y5 = 0 → tw_T G l o ad h d mX3_layCorners (tw_qv G o ad h K) 167 [some (.ref o), some (.int x1), some (.int x2), some (.int x3), some (.int (x3 + (1 : Int32)))] [] s4) ∧ (y5 = 0 → tw_T G l o ad h d mX3_layCorners (tw_qv G o ad h K) 128 [some (.ref o), some (.int x1), some (.int x2), some (.int (x3 + (1 : Int32))), none] [] s4))))))) : tw_T G l o ad h d mX3_layCorners (tw_qv G o ad h K) 128 [some (.ref o), some (.int x1), some (.int x2), some (.int x3), none] [] s := by
  refine wq_iload_n (pc := 128) dX3_layCorners_128 rfl rfl ?_
  refine wq_aload_n (pc := 129) dX3_layCorners_129 rfl rfl ?_
  refine tg15 (pc := 130) rfl dX3_layCorners_130 ?_
  refine wq_bipush (pc := 133) dX3_layCorners_133 cstb85 ?_
  refine tw_iald' (pc := 135) ok mia15 dX3_layCorners_135 V (fun y1 V => ?_)
  refine wq_icmp_ge (pc := 136) (tgt := 257) dX3_layCorners_136 rfl (fun c => ?_) (fun c => ?_)
  · have V := V.1 c
    refine wq_iinc (L' := [some (.ref o), some (.int x1), some (.int (x2 + (1 : Int32))), some (.int x3), none]) (pc := 257) dX3_layCorners_257 rfl (by rw [csti1]) (Nat.le_of_ble_eq_true rfl) rfl ?_
    refine wq_goto (pc := 260) (tgt := 97) dX3_layCorners_260 rfl ?_
    exact wq_T.less V ⟨rfl, ⟨rfl, ⟨rfl, trivial⟩⟩⟩
  · have V := V.2 c
    refine wq_aload_n (pc := 139) dX3_layCorners_139 rfl rfl ?_
    refine tg33 (pc := 140) rfl dX3_layCorners_140 ?_
    refine wq_iload_n (pc := 143) dX3_layCorners_143 rfl rfl ?_
    refine tw_iald' (pc := 144) ok mia33 dX3_layCorners_144 V (fun y2 V => ?_)
    refine wq_aload_n (pc := 145) dX3_layCorners_145 rfl rfl ?_
    refine tg33 (pc := 146) rfl dX3_layCorners_146 ?_
    refine wq_iload_n (pc := 149) dX3_layCorners_149 rfl rfl ?_
    refine tw_iald' (pc := 150) ok mia33 dX3_layCorners_150 V (fun y3 V => ?_)
    refine wq_iand (pc := 151) dX3_layCorners_151 ?_
    refine wq_iload_n (pc := 152) dX3_layCorners_152 rfl rfl ?_
    refine tcq1948 (pc := 153) (As := [.int (y2 &&& y3), .int x3]) (st := []) rfl dX3_layCorners_153 rfl (Nat.le_of_ble_eq_true rfl) V (tw_ki (fun y5 s4 V => ?_))
    refine wq_if_ne (pc := 156) (tgt := 162) dX3_layCorners_156 rfl (fun c => ?_) (fun c => ?_)
    · have V := V.1 c
      refine wq_iload_n (pc := 162) dX3_layCorners_162 rfl rfl ?_
      refine wq_iconst (pc := 163) dX3_layCorners_163 csti1 ?_
      refine wq_iadd (pc := 164) dX3_layCorners_164 ?_
      refine wq_istore (L' := [some (.ref o), some (.int x1), some (.int x2), some (.int x3), some (.int (x3 + (1 : Int32)))]) (pc := 165) dX3_layCorners_165 (Nat.le_of_ble_eq_true rfl) rfl ?_
      exact V
    · have V := V.2 c
      refine wq_goto (pc := 159) (tgt := 251) dX3_layCorners_159 rfl ?_
      refine wq_iinc (L' := [some (.ref o), some (.int x1), some (.int x2), some (.int (x3 + (1 : Int32))), none]) (pc := 251) dX3_layCorners_251 rfl (by rw [csti1]) (Nat.le_of_ble_eq_true rfl) rfl ?_
      refine wq_goto (pc := 254) (tgt := 128) dX3_layCorners_254 rfl ?_
      exact V
theorem vX3_layCorners_167 {G : wq_G} {l : Launch} {o : Nat} {ad : Nat → Nat} {h : wq_H} {d : Nat} {K : tw_S → Prop} (ok : tw_ok G o ad)  {x1 : Int32} {x2 : Int32} {x3 : Int32} {x4 : Int32} {s : tw_S} (V : tw_ld s 15 (85 : Int32) (fun y1 => (y1 ≤ x4 → tw_T G l o ad h d mX3_layCorners (tw_qv G o ad h K) 128 [some (.ref o), some (.int x1), some (.int x2), some (.int (x3 + (1 : Int32))), none] [] s) ∧ (¬ y1 ≤ x4 → tw_ld s 33 x1 (fun y2 => tw_ld s 33 x2 (fun y3 => tw_ld s 33 x3 (fun y4 => tw_ci G l o ad h d mX3_has [.int ((y2 &&& y3) &&& y4), .int x4] s (fun y6 s5 => (¬ y6 = 0 → tw_st s5 32 (s5.1 34) (((((1 : Int32) <<< (x1 &&& 31)) ||| ((1 : Int32) <<< (x2 &&& 31))) ||| ((1 : Int32) <<< (x3 &&& 31))) ||| ((1 : Int32) <<< (x4 &&& 31))) (fun s7 => tw_pt s7 34 ((s7.1 34) + (1 : Int32)) (fun s8 => tw_T G l o ad h d mX3_layCorners (tw_qv G o ad h K) 167 [some (.ref o), some (.int x1), some (.int x2), some (.int x3), some (.int (x4 + (1 : Int32)))] [] s8))) ∧ (y6 = 0 → tw_T G l o ad h d mX3_layCorners (tw_qv G o ad h K) 167 [some (.ref o), some (.int x1), some (.int x2), some (.int x3), some (.int (x4 + (1 : Int32)))] [] s5)))))))) : tw_T G l o ad h d mX3_layCorners (tw_qv G o ad h K) 167 [some (.ref o), some (.int x1), some (.int x2), some (.int x3), some (.int x4)] [] s := by
  refine wq_iload (pc := 167) dX3_layCorners_167 rfl ?_
  refine wq_aload_n (pc := 169) dX3_layCorners_169 rfl rfl ?_
  refine tg15 (pc := 170) rfl dX3_layCorners_170 ?_
  refine wq_bipush (pc := 173) dX3_layCorners_173 cstb85 ?_
  refine tw_iald' (pc := 175) ok mia15 dX3_layCorners_175 V (fun y1 V => ?_)
  refine wq_icmp_ge (pc := 176) (tgt := 251) dX3_layCorners_176 rfl (fun c => ?_) (fun c => ?_)
  · have V := V.1 c
    refine wq_iinc (L' := [some (.ref o), some (.int x1), some (.int x2), some (.int (x3 + (1 : Int32))), some (.int x4)]) (pc := 251) dX3_layCorners_251 rfl (by rw [csti1]) (Nat.le_of_ble_eq_true rfl) rfl ?_
    refine wq_goto (pc := 254) (tgt := 128) dX3_layCorners_254 rfl ?_
    exact wq_T.less V ⟨rfl, ⟨rfl, ⟨rfl, ⟨rfl, trivial⟩⟩⟩⟩
  · have V := V.2 c
    refine wq_aload_n (pc := 179) dX3_layCorners_179 rfl rfl ?_
    refine tg33 (pc := 180) rfl dX3_layCorners_180 ?_
    refine wq_iload_n (pc := 183) dX3_layCorners_183 rfl rfl ?_
    refine tw_iald' (pc := 184) ok mia33 dX3_layCorners_184 V (fun y2 V => ?_)
    refine wq_aload_n (pc := 185) dX3_layCorners_185 rfl rfl ?_
    refine tg33 (pc := 186) rfl dX3_layCorners_186 ?_
    refine wq_iload_n (pc := 189) dX3_layCorners_189 rfl rfl ?_
    refine tw_iald' (pc := 190) ok mia33 dX3_layCorners_190 V (fun y3 V => ?_)
    refine wq_iand (pc := 191) dX3_layCorners_191 ?_
    refine wq_aload_n (pc := 192) dX3_layCorners_192 rfl rfl ?_
    refine tg33 (pc := 193) rfl dX3_layCorners_193 ?_
    refine wq_iload_n (pc := 196) dX3_layCorners_196 rfl rfl ?_
    refine tw_iald' (pc := 197) ok mia33 dX3_layCorners_197 V (fun y4 V => ?_)
    refine wq_iand (pc := 198) dX3_layCorners_198 ?_
    refine wq_iload (pc := 199) dX3_layCorners_199 rfl ?_
    refine tcq1948 (pc := 201) (As := [.int ((y2 &&& y3) &&& y4), .int x4]) (st := []) rfl dX3_layCorners_201 rfl (Nat.le_of_ble_eq_true rfl) V (tw_ki (fun y6 s5 V => ?_))
    refine wq_if_ne (pc := 204) (tgt := 210) dX3_layCorners_204 rfl (fun c => ?_) (fun c => ?_)
    · have V := V.1 c
      refine wq_aload_n (pc := 210) dX3_layCorners_210 rfl rfl ?_
      refine tg32 (pc := 211) rfl dX3_layCorners_211 ?_
      refine wq_aload_n (pc := 214) dX3_layCorners_214 rfl rfl ?_
      refine tg34 (pc := 215) rfl dX3_layCorners_215 ?_
      refine wq_iconst (pc := 218) dX3_layCorners_218 csti1 ?_
      refine wq_iload_n (pc := 219) dX3_layCorners_219 rfl rfl ?_
      refine wq_ishl (pc := 220) dX3_layCorners_220 ?_
      refine wq_iconst (pc := 221) dX3_layCorners_221 csti1 ?_
      refine wq_iload_n (pc := 222) dX3_layCorners_222 rfl rfl ?_
      refine wq_ishl (pc := 223) dX3_layCorners_223 ?_
      refine wq_ior (pc := 224) dX3_layCorners_224 ?_
      refine wq_iconst (pc := 225) dX3_layCorners_225 csti1 ?_
      refine wq_iload_n (pc := 226) dX3_layCorners_226 rfl rfl ?_
      refine wq_ishl (pc := 227) dX3_layCorners_227 ?_
      refine wq_ior (pc := 228) dX3_layCorners_228 ?_
      refine wq_iconst (pc := 229) dX3_layCorners_229 csti1 ?_
      refine wq_iload (pc := 230) dX3_layCorners_230 rfl ?_
      refine wq_ishl (pc := 232) dX3_layCorners_232 ?_
      refine wq_ior (pc := 233) dX3_layCorners_233 ?_
      refine tw_iast' (pc := 234) ok mia32 dX3_layCorners_234 V (fun s7 V => ?_)
      refine wq_aload_n (pc := 235) dX3_layCorners_235 rfl rfl ?_
      refine wq_dup (pc := 236) dX3_layCorners_236 rfl ?_
      refine tg34 (pc := 237) rfl dX3_layCorners_237 ?_
      refine wq_iconst (pc := 240) dX3_layCorners_240 csti1 ?_
      refine wq_iadd (pc := 241) dX3_layCorners_241 ?_
      refine tp34 (pc := 242) rfl ok dX3_layCorners_242 V (fun s8 V => ?_)
      refine wq_iinc (L' := [some (.ref o), some (.int x1), some (.int x2), some (.int x3), some (.int (x4 + (1 : Int32)))]) (pc := 245) dX3_layCorners_245 rfl (by rw [csti1]) (Nat.le_of_ble_eq_true rfl) rfl ?_
      refine wq_goto (pc := 248) (tgt := 167) dX3_layCorners_248 rfl ?_
      exact V
    · have V := V.2 c
      refine wq_goto (pc := 207) (tgt := 245) dX3_layCorners_207 rfl ?_
      refine wq_iinc (L' := [some (.ref o), some (.int x1), some (.int x2), some (.int x3), some (.int (x4 + (1 : Int32)))]) (pc := 245) dX3_layCorners_245 rfl (by rw [csti1]) (Nat.le_of_ble_eq_true rfl) rfl ?_
      refine wq_goto (pc := 248) (tgt := 167) dX3_layCorners_248 rfl ?_
      exact V
theorem vX3_colours_0 {G : wq_G} {l : Launch} {o : Nat} {ad : Nat → Nat} {h : wq_H} {d : Nat} {K : Int32 → tw_S → Prop} (ok : tw_ok G o ad)   {s : tw_S} (V : tw_cv G l o ad h d mX3_good [.ref o] s (fun s1 => (¬ (s1.1 14) = 0 → tw_cv G l o ad h d mX3_layCorners [.ref o] s1 (fun s2 => tw_ci G l o ad h d mX3_allRays [.ref o] s2 (fun y4 s3 => tw_cv G l o ad h d mX3_colour [.ref o, .int y4, .int (1048576 : Int32)] s3 (fun s5 => K (s5.1 36) s5)))) ∧ ((s1.1 14) = 0 → tw_ci G l o ad h d mX3_no [.ref o, .int (1 : Int32)] s1 (fun y7 s6 => K y7 s6)))) : tw_T G l o ad h d mX3_colours (tw_qi G o ad h K) 0 [some (.ref o)] [] s := by
  refine wq_aload_n (pc := 0) dX3_colours_0 rfl rfl ?_
  refine tcq1836 (pc := 1) (As := []) (st := []) rfl dX3_colours_1 rfl (Nat.le_of_ble_eq_true rfl) V (tw_kv (fun s1 V => ?_))
  refine wq_aload_n (pc := 4) dX3_colours_4 rfl rfl ?_
  refine tg14 (pc := 5) rfl dX3_colours_5 ?_
  refine wq_if_ne (pc := 8) (tgt := 17) dX3_colours_8 rfl (fun c => ?_) (fun c => ?_)
  · have V := V.1 c
    refine wq_aload_n (pc := 17) dX3_colours_17 rfl rfl ?_
    refine tcq2215 (pc := 18) (As := []) (st := []) rfl dX3_colours_18 rfl (Nat.le_of_ble_eq_true rfl) V (tw_kv (fun s2 V => ?_))
    refine wq_aload_n (pc := 21) dX3_colours_21 rfl rfl ?_
    refine wq_aload_n (pc := 22) dX3_colours_22 rfl rfl ?_
    refine tcq2223 (pc := 23) (As := []) (st := [.ref o]) rfl dX3_colours_23 rfl (Nat.le_of_ble_eq_true rfl) V (tw_ki (fun y4 s3 V => ?_))
    refine wq_ldcw (pc := 26) (v := (1048576 : Int32)) q2227 dX3_colours_26 ?_
    refine tcq2228 (pc := 29) (As := [.int y4, .int (1048576 : Int32)]) (st := []) rfl dX3_colours_29 rfl (Nat.le_of_ble_eq_true rfl) V (tw_kv (fun s5 V => ?_))
    refine wq_aload_n (pc := 32) dX3_colours_32 rfl rfl ?_
    refine tg36 (pc := 33) rfl dX3_colours_33 ?_
    refine wq_iret (pc := 36) dX3_colours_36 rfl ⟨_, _, rfl, rfl, V⟩
  · have V := V.2 c
    refine wq_aload_n (pc := 11) dX3_colours_11 rfl rfl ?_
    refine wq_iconst (pc := 12) dX3_colours_12 csti1 ?_
    refine tcq1843 (pc := 13) (As := [.int (1 : Int32)]) (st := []) rfl dX3_colours_13 rfl (Nat.le_of_ble_eq_true rfl) V (tw_ki (fun y7 s6 V => ?_))
    refine wq_iret (pc := 16) dX3_colours_16 rfl ⟨_, _, rfl, rfl, V⟩
theorem vX3_allRays_0 {G : wq_G} {l : Launch} {o : Nat} {ad : Nat → Nat} {h : wq_H} {d : Nat} {K : Int32 → tw_S → Prop} (ok : tw_ok G o ad)   {s : tw_S} (V : tw_ld s 15 (85 : Int32) (fun y1 => K (((1 : Int32) <<< (y1 &&& 31)) - (1 : Int32)) s)) : tw_T G l o ad h d mX3_allRays (tw_qi G o ad h K) 0 [some (.ref o)] [] s := by
  refine wq_iconst (pc := 0) dX3_allRays_0 csti1 ?_
  refine wq_aload_n (pc := 1) dX3_allRays_1 rfl rfl ?_
  refine tg15 (pc := 2) rfl dX3_allRays_2 ?_
  refine wq_bipush (pc := 5) dX3_allRays_5 cstb85 ?_
  refine tw_iald' (pc := 7) ok mia15 dX3_allRays_7 V (fun y1 V => ?_)
  refine wq_ishl (pc := 8) dX3_allRays_8 ?_
  refine wq_iconst (pc := 9) dX3_allRays_9 csti1 ?_
  refine wq_isub (pc := 10) dX3_allRays_10 ?_
  refine wq_iret (pc := 11) dX3_allRays_11 rfl ⟨_, _, rfl, rfl, V⟩
theorem vX3_colour_0 {G : wq_G} {l : Launch} {o : Nat} {ad : Nat → Nat} {h : wq_H} {d : Nat} {K : tw_S → Prop} (ok : tw_ok G o ad)  {x1 : Int32} {x2 : Int32} {s : tw_S} (V : tw_ld s 15 (85 : Int32) (fun y1 => tw_pt s 36 (0 : Int32) (fun s2 => tw_pt s2 37 (0 : Int32) (fun s3 => tw_T G l o ad h d mX3_colour (tw_qv G o ad h K) 21 [some (.ref o), some (.int x1), some (.int x2), some (.int y1), some (.int (0 : Int32)), none, none, none, none] [] s3)))) : tw_T G l o ad h d mX3_colour (tw_qv G o ad h K) 0 [some (.ref o), some (.int x1), some (.int x2), none, none, none, none, none, none] [] s := by
  refine wq_aload_n (pc := 0) dX3_colour_0 rfl rfl ?_
  refine tg15 (pc := 1) rfl dX3_colour_1 ?_
  refine wq_bipush (pc := 4) dX3_colour_4 cstb85 ?_
  refine tw_iald' (pc := 6) ok mia15 dX3_colour_6 V (fun y1 V => ?_)
  refine wq_istore_n (L' := [some (.ref o), some (.int x1), some (.int x2), some (.int y1), none, none, none, none, none]) (pc := 7) dX3_colour_7 rfl (Nat.le_of_ble_eq_true rfl) rfl ?_
  refine wq_aload_n (pc := 8) dX3_colour_8 rfl rfl ?_
  refine wq_iconst (pc := 9) dX3_colour_9 csti0 ?_
  refine tp36 (pc := 10) rfl ok dX3_colour_10 V (fun s2 V => ?_)
  refine wq_aload_n (pc := 13) dX3_colour_13 rfl rfl ?_
  refine wq_iconst (pc := 14) dX3_colour_14 csti0 ?_
  refine tp37 (pc := 15) rfl ok dX3_colour_15 V (fun s3 V => ?_)
  refine wq_iconst (pc := 18) dX3_colour_18 csti0 ?_
  refine wq_istore (L' := [some (.ref o), some (.int x1), some (.int x2), some (.int y1), some (.int (0 : Int32)), none, none, none, none]) (pc := 19) dX3_colour_19 (Nat.le_of_ble_eq_true rfl) rfl ?_
  exact V
theorem vX3_colour_21 {G : wq_G} {l : Launch} {o : Nat} {ad : Nat → Nat} {h : wq_H} {d : Nat} {K : tw_S → Prop} (ok : tw_ok G o ad)  {x1 : Int32} {x2 : Int32} {x3 : Int32} {x4 : Int32} {s : tw_S} (V : (x3 < x4 → tw_T G l o ad h d mX3_colour (tw_qv G o ad h K) 47 [some (.ref o), some (.int x1), some (.int x2), some (.int x3), some (.int (0 : Int32)), some (.int (0 : Int32)), none, none, none] [] s) ∧ (¬ x3 < x4 → tw_st s 35 x4 (0 : Int32) (fun s1 => tw_T G l o ad h d mX3_colour (tw_qv G o ad h K) 21 [some (.ref o), some (.int x1), some (.int x2), some (.int x3), some (.int (x4 + (1 : Int32))), none, none, none, none] [] s1))) : tw_T G l o ad h d mX3_colour (tw_qv G o ad h K) 21 [some (.ref o), some (.int x1), some (.int x2), some (.int x3), some (.int x4), none, none, none, none] [] s := by
  refine wq_iload (pc := 21) dX3_colour_21 rfl ?_
  refine wq_iload_n (pc := 23) dX3_colour_23 rfl rfl ?_
  refine wq_icmp_gt (pc := 24) (tgt := 41) dX3_colour_24 rfl (fun c => ?_) (fun c => ?_)
  · have V := V.1 c
    refine wq_iconst (pc := 41) dX3_colour_41 csti0 ?_
    refine wq_istore (L' := [some (.ref o), some (.int x1), some (.int x2), some (.int x3), some (.int (0 : Int32)), none, none, none, none]) (pc := 42) dX3_colour_42 (Nat.le_of_ble_eq_true rfl) rfl ?_
    refine wq_iconst (pc := 44) dX3_colour_44 csti0 ?_
    refine wq_istore (L' := [some (.ref o), some (.int x1), some (.int x2), some (.int x3), some (.int (0 : Int32)), some (.int (0 : Int32)), none, none, none]) (pc := 45) dX3_colour_45 (Nat.le_of_ble_eq_true rfl) rfl ?_
    exact V
  · have V := V.2 c
    refine wq_aload_n (pc := 27) dX3_colour_27 rfl rfl ?_
    refine tg35 (pc := 28) rfl dX3_colour_28 ?_
    refine wq_iload (pc := 31) dX3_colour_31 rfl ?_
    refine wq_iconst (pc := 33) dX3_colour_33 csti0 ?_
    refine tw_iast' (pc := 34) ok mia35 dX3_colour_34 V (fun s1 V => ?_)
    refine wq_iinc (L' := [some (.ref o), some (.int x1), some (.int x2), some (.int x3), some (.int (x4 + (1 : Int32))), none, none, none, none]) (pc := 35) dX3_colour_35 rfl (by rw [csti1]) (Nat.le_of_ble_eq_true rfl) rfl ?_
    refine wq_goto (pc := 38) (tgt := 21) dX3_colour_38 rfl ?_
    exact V
theorem vX3_colour_47 {G : wq_G} {l : Launch} {o : Nat} {ad : Nat → Nat} {h : wq_H} {d : Nat} {K : tw_S → Prop} (ok : tw_ok G o ad)  {x1 : Int32} {x2 : Int32} {x3 : Int32} {x4 : Int32} {x5 : Int32} {s : tw_S} (V : (x4 < 0 → K s) ∧ (¬ x4 < 0 → (¬ x4 = x3 → tw_ld s 35 x4 (fun y1 => (¬ y1 = (2 : Int32) → tw_ld s 35 x4 (fun y2 => (¬ y2 = (1 : Int32) → tw_ld s 35 x4 (fun y3 => tw_st s 35 x4 (y3 + (1 : Int32)) (fun s4 => ((0 : Int32) = 0 → tw_T G l o ad h d mX3_colour (tw_qv G o ad h K) 208 [some (.ref o), some (.int x1), some (.int x2), some (.int x3), some (.int x4), some (.int (x5 &&& (((1 : Int32) <<< (x4 &&& 31)) ^^^ (-1 : Int32)))), some (.int ((1 : Int32) <<< (x4 &&& 31))), some (.int (0 : Int32)), none] [] s4) ∧ (¬ (0 : Int32) = 0 → ((x1 &&& ((1 : Int32) <<< (x4 &&& 31))) = 0 → tw_T G l o ad h d mX3_colour (tw_qv G o ad h K) 47 [some (.ref o), some (.int x1), some (.int x2), some (.int x3), some (.int x4), some (.int (x5 &&& (((1 : Int32) <<< (x4 &&& 31)) ^^^ (-1 : Int32)))), none, none, none] [] s4) ∧ (¬ (x1 &&& ((1 : Int32) <<< (x4 &&& 31))) = 0 → tw_ld s4 33 x4 (fun y5 => ((y5 &&& (x5 &&& (((1 : Int32) <<< (x4 &&& 31)) ^^^ (-1 : Int32)))) = 0 → tw_T G l o ad h d mX3_colour (tw_qv G o ad h K) 208 [some (.ref o), some (.int x1), some (.int x2), some (.int x3), some (.int x4), some (.int (x5 &&& (((1 : Int32) <<< (x4 &&& 31)) ^^^ (-1 : Int32)))), some (.int ((1 : Int32) <<< (x4 &&& 31))), some (.int (0 : Int32)), none] [] s4) ∧ (¬ (y5 &&& (x5 &&& (((1 : Int32) <<< (x4 &&& 31)) ^^^ (-1 : Int32)))) = 0 → tw_T G l o ad h d mX3_colour (tw_qv G o ad h K) 47 [some (.ref o), some (.int x1), some (.int x2), some (.int x3), some (.int x4), some (.int (x5 &&& (((1 : Int32) <<< (x4 &&& 31)) ^^^ (-1 : Int32)))), none, none, none] [] s4))))))) ∧ (y2 = (1 : Int32) → tw_ld s 35 x4 (fun y6 => tw_st s 35 x4 (y6 + (1 : Int32)) (fun s7 => ((1 : Int32) = 0 → tw_T G l o ad h d mX3_colour (tw_qv G o ad h K) 208 [some (.ref o), some (.int x1), some (.int x2), some (.int x3), some (.int x4), some (.int (x5 &&& (((1 : Int32) <<< (x4 &&& 31)) ^^^ (-1 : Int32)))), some (.int ((1 : Int32) <<< (x4 &&& 31))), some (.int (1 : Int32)), none] [] s7) ∧ (¬ (1 : Int32) = 0 → ((x1 &&& ((1 : Int32) <<< (x4 &&& 31))) = 0 → tw_T G l o ad h d mX3_colour (tw_qv G o ad h K) 47 [some (.ref o), some (.int x1), some (.int x2), some (.int x3), some (.int x4), some (.int (x5 &&& (((1 : Int32) <<< (x4 &&& 31)) ^^^ (-1 : Int32)))), none, none, none] [] s7) ∧ (¬ (x1 &&& ((1 : Int32) <<< (x4 &&& 31))) = 0 → tw_ld s7 33 x4 (fun y8 => ((y8 &&& (x5 &&& (((1 : Int32) <<< (x4 &&& 31)) ^^^ (-1 : Int32)))) = 0 → tw_T G l o ad h d mX3_colour (tw_qv G o ad h K) 208 [some (.ref o), some (.int x1), some (.int x2), some (.int x3), some (.int x4), some (.int (x5 &&& (((1 : Int32) <<< (x4 &&& 31)) ^^^ (-1 : Int32)))), some (.int ((1 : Int32) <<< (x4 &&& 31))), some (.int (1 : Int32)), none] [] s7) ∧ (¬ (y8 &&& (x5 &&& (((1 : Int32) <<< (x4 &&& 31)) ^^^ (-1 : Int32)))) = 0 → tw_T G l o ad h d mX3_colour (tw_qv G o ad h K) 47 [some (.ref o), some (.int x1), some (.int x2), some (.int x3), some (.int x4), some (.int (x5 &&& (((1 : Int32) <<< (x4 &&& 31)) ^^^ (-1 : Int32)))), none, none, none] [] s7))))))))) ∧ (y1 = (2 : Int32) → tw_st s 35 x4 (0 : Int32) (fun s9 => tw_T G l o ad h d mX3_colour (tw_qv G o ad h K) 47 [some (.ref o), some (.int x1), some (.int x2), some (.int x3), some (.int (x4 + (-1 : Int32))), some (.int (x5 &&& (((1 : Int32) <<< (x4 &&& 31)) ^^^ (-1 : Int32)))), none, none, none] [] s9)))) ∧ (x4 = x3 → tw_pt s 36 ((s.1 36) + (1 : Int32)) (fun s10 => tw_ci G l o ad h d mX3_bits [.int x5] s10 (fun y12 s11 => (y12 ≤ (s11.1 37) → tw_pt s11 37 (s11.1 37) (fun s13 => (¬ (s13.1 36) = x2 → tw_T G l o ad h d mX3_colour (tw_qv G o ad h K) 47 [some (.ref o), some (.int x1), some (.int x2), some (.int x3), some (.int (x4 + (-1 : Int32))), some (.int x5), none, none, none] [] s13) ∧ ((s13.1 36) = x2 → K s13))) ∧ (¬ y12 ≤ (s11.1 37) → tw_ci G l o ad h d mX3_bits [.int x5] s11 (fun y15 s14 => tw_pt s14 37 y15 (fun s16 => (¬ (s16.1 36) = x2 → tw_T G l o ad h d mX3_colour (tw_qv G o ad h K) 47 [some (.ref o), some (.int x1), some (.int x2), some (.int x3), some (.int (x4 + (-1 : Int32))), some (.int x5), none, none, none] [] s16) ∧ ((s16.1 36) = x2 → K s16))))))))) : tw_T G l o ad h d mX3_colour (tw_qv G o ad h K) 47 [some (.ref o), some (.int x1), some (.int x2), some (.int x3), some (.int x4), some (.int x5), none, none, none] [] s := by
  refine wq_iload (pc := 47) dX3_colour_47 rfl ?_
  refine wq_if_lt (pc := 49) (tgt := 254) dX3_colour_49 rfl (fun c => ?_) (fun c => ?_)
  · have V := V.1 c
    refine wq_vret (pc := 254) dX3_colour_254 rfl ⟨_, rfl, rfl, V⟩
  · have V := V.2 c
    refine wq_iload (pc := 52) dX3_colour_52 rfl ?_
    refine wq_iload_n (pc := 54) dX3_colour_54 rfl rfl ?_
    refine wq_icmp_ne (pc := 55) (tgt := 111) dX3_colour_55 rfl (fun c => ?_) (fun c => ?_)
    · have V := V.1 c
      refine wq_iconst (pc := 111) dX3_colour_111 csti1 ?_
      refine wq_iload (pc := 112) dX3_colour_112 rfl ?_
      refine wq_ishl (pc := 114) dX3_colour_114 ?_
      refine wq_istore (L' := [some (.ref o), some (.int x1), some (.int x2), some (.int x3), some (.int x4), some (.int x5), some (.int ((1 : Int32) <<< (x4 &&& 31))), none, none]) (pc := 115) dX3_colour_115 (Nat.le_of_ble_eq_true rfl) rfl ?_
      refine wq_iload (pc := 117) dX3_colour_117 rfl ?_
      refine wq_iload (pc := 119) dX3_colour_119 rfl ?_
      refine wq_iconst (pc := 121) dX3_colour_121 cstim1 ?_
      refine wq_ixor (pc := 122) dX3_colour_122 ?_
      refine wq_iand (pc := 123) dX3_colour_123 ?_
      refine wq_istore (L' := [some (.ref o), some (.int x1), some (.int x2), some (.int x3), some (.int x4), some (.int (x5 &&& (((1 : Int32) <<< (x4 &&& 31)) ^^^ (-1 : Int32)))), some (.int ((1 : Int32) <<< (x4 &&& 31))), none, none]) (pc := 124) dX3_colour_124 (Nat.le_of_ble_eq_true rfl) rfl ?_
      refine wq_aload_n (pc := 126) dX3_colour_126 rfl rfl ?_
      refine tg35 (pc := 127) rfl dX3_colour_127 ?_
      refine wq_iload (pc := 130) dX3_colour_130 rfl ?_
      refine tw_iald' (pc := 132) ok mia35 dX3_colour_132 V (fun y1 V => ?_)
      refine wq_iconst (pc := 133) dX3_colour_133 csti2 ?_
      refine wq_icmp_ne (pc := 134) (tgt := 151) dX3_colour_134 rfl (fun c => ?_) (fun c => ?_)
      · have V := V.1 c
        refine wq_aload_n (pc := 151) dX3_colour_151 rfl rfl ?_
        refine tg35 (pc := 152) rfl dX3_colour_152 ?_
        refine wq_iload (pc := 155) dX3_colour_155 rfl ?_
        refine tw_iald' (pc := 157) ok mia35 dX3_colour_157 V (fun y2 V => ?_)
        refine wq_iconst (pc := 158) dX3_colour_158 csti1 ?_
        refine wq_icmp_ne (pc := 159) (tgt := 166) dX3_colour_159 rfl (fun c => ?_) (fun c => ?_)
        · have V := V.1 c
          refine wq_iconst (pc := 166) dX3_colour_166 csti0 ?_
          refine wq_istore (L' := [some (.ref o), some (.int x1), some (.int x2), some (.int x3), some (.int x4), some (.int (x5 &&& (((1 : Int32) <<< (x4 &&& 31)) ^^^ (-1 : Int32)))), some (.int ((1 : Int32) <<< (x4 &&& 31))), some (.int (0 : Int32)), none]) (pc := 167) dX3_colour_167 (Nat.le_of_ble_eq_true rfl) rfl ?_
          refine wq_aload_n (pc := 169) dX3_colour_169 rfl rfl ?_
          refine tg35 (pc := 170) rfl dX3_colour_170 ?_
          refine wq_iload (pc := 173) dX3_colour_173 rfl ?_
          refine wq_dup2 (pc := 175) dX3_colour_175 rfl rfl ?_
          refine tw_iald' (pc := 176) ok mia35 dX3_colour_176 V (fun y3 V => ?_)
          refine wq_iconst (pc := 177) dX3_colour_177 csti1 ?_
          refine wq_iadd (pc := 178) dX3_colour_178 ?_
          refine tw_iast' (pc := 179) ok mia35 dX3_colour_179 V (fun s4 V => ?_)
          refine wq_iload (pc := 180) dX3_colour_180 rfl ?_
          refine wq_if_eq (pc := 182) (tgt := 208) dX3_colour_182 rfl (fun c => ?_) (fun c => ?_)
          · have V := V.1 c
            exact V
          · have V := V.2 c
            refine wq_iload_n (pc := 185) dX3_colour_185 rfl rfl ?_
            refine wq_iload (pc := 186) dX3_colour_186 rfl ?_
            refine wq_iand (pc := 188) dX3_colour_188 ?_
            refine wq_if_eq (pc := 189) (tgt := 47) dX3_colour_189 rfl (fun c => ?_) (fun c => ?_)
            · have V := V.1 c
              exact wq_T.less V ⟨rfl, ⟨rfl, ⟨rfl, ⟨rfl, ⟨rfl, ⟨rfl, trivial⟩⟩⟩⟩⟩⟩
            · have V := V.2 c
              refine wq_aload_n (pc := 192) dX3_colour_192 rfl rfl ?_
              refine tg33 (pc := 193) rfl dX3_colour_193 ?_
              refine wq_iload (pc := 196) dX3_colour_196 rfl ?_
              refine tw_iald' (pc := 198) ok mia33 dX3_colour_198 V (fun y5 V => ?_)
              refine wq_iload (pc := 199) dX3_colour_199 rfl ?_
              refine wq_iand (pc := 201) dX3_colour_201 ?_
              refine wq_if_eq (pc := 202) (tgt := 208) dX3_colour_202 rfl (fun c => ?_) (fun c => ?_)
              · have V := V.1 c
                exact V
              · have V := V.2 c
                refine wq_goto (pc := 205) (tgt := 47) dX3_colour_205 rfl ?_
                exact wq_T.less V ⟨rfl, ⟨rfl, ⟨rfl, ⟨rfl, ⟨rfl, ⟨rfl, trivial⟩⟩⟩⟩⟩⟩
        · have V := V.2 c
          refine wq_iconst (pc := 162) dX3_colour_162 csti1 ?_
          refine wq_goto (pc := 163) (tgt := 167) dX3_colour_163 rfl ?_
          refine wq_istore (L' := [some (.ref o), some (.int x1), some (.int x2), some (.int x3), some (.int x4), some (.int (x5 &&& (((1 : Int32) <<< (x4 &&& 31)) ^^^ (-1 : Int32)))), some (.int ((1 : Int32) <<< (x4 &&& 31))), some (.int (1 : Int32)), none]) (pc := 167) dX3_colour_167 (Nat.le_of_ble_eq_true rfl) rfl ?_
          refine wq_aload_n (pc := 169) dX3_colour_169 rfl rfl ?_
          refine tg35 (pc := 170) rfl dX3_colour_170 ?_
          refine wq_iload (pc := 173) dX3_colour_173 rfl ?_
          refine wq_dup2 (pc := 175) dX3_colour_175 rfl rfl ?_
          refine tw_iald' (pc := 176) ok mia35 dX3_colour_176 V (fun y6 V => ?_)
          refine wq_iconst (pc := 177) dX3_colour_177 csti1 ?_
          refine wq_iadd (pc := 178) dX3_colour_178 ?_
          refine tw_iast' (pc := 179) ok mia35 dX3_colour_179 V (fun s7 V => ?_)
          refine wq_iload (pc := 180) dX3_colour_180 rfl ?_
          refine wq_if_eq (pc := 182) (tgt := 208) dX3_colour_182 rfl (fun c => ?_) (fun c => ?_)
          · have V := V.1 c
            exact V
          · have V := V.2 c
            refine wq_iload_n (pc := 185) dX3_colour_185 rfl rfl ?_
            refine wq_iload (pc := 186) dX3_colour_186 rfl ?_
            refine wq_iand (pc := 188) dX3_colour_188 ?_
            refine wq_if_eq (pc := 189) (tgt := 47) dX3_colour_189 rfl (fun c => ?_) (fun c => ?_)
            · have V := V.1 c
              exact wq_T.less V ⟨rfl, ⟨rfl, ⟨rfl, ⟨rfl, ⟨rfl, ⟨rfl, trivial⟩⟩⟩⟩⟩⟩
            · have V := V.2 c
              refine wq_aload_n (pc := 192) dX3_colour_192 rfl rfl ?_
              refine tg33 (pc := 193) rfl dX3_colour_193 ?_
              refine wq_iload (pc := 196) dX3_colour_196 rfl ?_
              refine tw_iald' (pc := 198) ok mia33 dX3_colour_198 V (fun y8 V => ?_)
              refine wq_iload (pc := 199) dX3_colour_199 rfl ?_
              refine wq_iand (pc := 201) dX3_colour_201 ?_
              refine wq_if_eq (pc := 202) (tgt := 208) dX3_colour_202 rfl (fun c => ?_) (fun c => ?_)
              · have V := V.1 c
                exact V
              · have V := V.2 c
                refine wq_goto (pc := 205) (tgt := 47) dX3_colour_205 rfl ?_
                exact wq_T.less V ⟨rfl, ⟨rfl, ⟨rfl, ⟨rfl, ⟨rfl, ⟨rfl, trivial⟩⟩⟩⟩⟩⟩
      · have V := V.2 c
        refine wq_aload_n (pc := 137) dX3_colour_137 rfl rfl ?_
        refine tg35 (pc := 138) rfl dX3_colour_138 ?_
        refine wq_iload (pc := 141) dX3_colour_141 rfl ?_
        refine wq_iconst (pc := 143) dX3_colour_143 csti0 ?_
        refine tw_iast' (pc := 144) ok mia35 dX3_colour_144 V (fun s9 V => ?_)
        refine wq_iinc (L' := [some (.ref o), some (.int x1), some (.int x2), some (.int x3), some (.int (x4 + (-1 : Int32))), some (.int (x5 &&& (((1 : Int32) <<< (x4 &&& 31)) ^^^ (-1 : Int32)))), some (.int ((1 : Int32) <<< (x4 &&& 31))), none, none]) (pc := 145) dX3_colour_145 rfl (by rw [cstim1]) (Nat.le_of_ble_eq_true rfl) rfl ?_
        refine wq_goto (pc := 148) (tgt := 47) dX3_colour_148 rfl ?_
        exact wq_T.less V ⟨rfl, ⟨rfl, ⟨rfl, ⟨rfl, ⟨rfl, ⟨rfl, trivial⟩⟩⟩⟩⟩⟩
    · have V := V.2 c
      refine wq_aload_n (pc := 58) dX3_colour_58 rfl rfl ?_
      refine wq_dup (pc := 59) dX3_colour_59 rfl ?_
      refine tg36 (pc := 60) rfl dX3_colour_60 ?_
      refine wq_iconst (pc := 63) dX3_colour_63 csti1 ?_
      refine wq_iadd (pc := 64) dX3_colour_64 ?_
      refine tp36 (pc := 65) rfl ok dX3_colour_65 V (fun s10 V => ?_)
      refine wq_aload_n (pc := 68) dX3_colour_68 rfl rfl ?_
      refine wq_iload (pc := 69) dX3_colour_69 rfl ?_
      refine tcq2107 (pc := 71) (As := [.int x5]) (st := [.ref o]) rfl dX3_colour_71 rfl (Nat.le_of_ble_eq_true rfl) V (tw_ki (fun y12 s11 V => ?_))
      refine wq_aload_n (pc := 74) dX3_colour_74 rfl rfl ?_
      refine tg37 (pc := 75) rfl dX3_colour_75 ?_
      refine wq_icmp_le (pc := 78) (tgt := 89) dX3_colour_78 rfl (fun c => ?_) (fun c => ?_)
      · have V := V.1 c
        refine wq_aload_n (pc := 89) dX3_colour_89 rfl rfl ?_
        refine tg37 (pc := 90) rfl dX3_colour_90 ?_
        refine tp37 (pc := 93) rfl ok dX3_colour_93 V (fun s13 V => ?_)
        refine wq_aload_n (pc := 96) dX3_colour_96 rfl rfl ?_
        refine tg36 (pc := 97) rfl dX3_colour_97 ?_
        refine wq_iload_n (pc := 100) dX3_colour_100 rfl rfl ?_
        refine wq_icmp_ne (pc := 101) (tgt := 105) dX3_colour_101 rfl (fun c => ?_) (fun c => ?_)
        · have V := V.1 c
          refine wq_iinc (L' := [some (.ref o), some (.int x1), some (.int x2), some (.int x3), some (.int (x4 + (-1 : Int32))), some (.int x5), none, none, none]) (pc := 105) dX3_colour_105 rfl (by rw [cstim1]) (Nat.le_of_ble_eq_true rfl) rfl ?_
          refine wq_goto (pc := 108) (tgt := 47) dX3_colour_108 rfl ?_
          exact V
        · have V := V.2 c
          refine wq_vret (pc := 104) dX3_colour_104 rfl ⟨_, rfl, rfl, V⟩
      · have V := V.2 c
        refine wq_iload (pc := 81) dX3_colour_81 rfl ?_
        refine tcq2107 (pc := 83) (As := [.int x5]) (st := [.ref o]) rfl dX3_colour_83 rfl (Nat.le_of_ble_eq_true rfl) V (tw_ki (fun y15 s14 V => ?_))
        refine wq_goto (pc := 86) (tgt := 93) dX3_colour_86 rfl ?_
        refine tp37 (pc := 93) rfl ok dX3_colour_93 V (fun s16 V => ?_)
        refine wq_aload_n (pc := 96) dX3_colour_96 rfl rfl ?_
        refine tg36 (pc := 97) rfl dX3_colour_97 ?_
        refine wq_iload_n (pc := 100) dX3_colour_100 rfl rfl ?_
        refine wq_icmp_ne (pc := 101) (tgt := 105) dX3_colour_101 rfl (fun c => ?_) (fun c => ?_)
        · have V := V.1 c
          refine wq_iinc (L' := [some (.ref o), some (.int x1), some (.int x2), some (.int x3), some (.int (x4 + (-1 : Int32))), some (.int x5), none, none, none]) (pc := 105) dX3_colour_105 rfl (by rw [cstim1]) (Nat.le_of_ble_eq_true rfl) rfl ?_
          refine wq_goto (pc := 108) (tgt := 47) dX3_colour_108 rfl ?_
          exact V
        · have V := V.2 c
          refine wq_vret (pc := 104) dX3_colour_104 rfl ⟨_, rfl, rfl, V⟩
theorem vX3_colour_208 {G : wq_G} {l : Launch} {o : Nat} {ad : Nat → Nat} {h : wq_H} {d : Nat} {K : tw_S → Prop} (ok : tw_ok G o ad)  {x1 : Int32} {x2 : Int32} {x3 : Int32} {x4 : Int32} {x5 : Int32} {x6 : Int32} {x7 : Int32} {s : tw_S} (V : (x7 = 0 → tw_ci G l o ad h d mX3_isSoFar [.ref o, .int x1, .int x5, .int ((x6 <<< ((1 : Int32) &&& 31)) - (1 : Int32))] s (fun y2 s1 => (¬ y2 = 0 → tw_T G l o ad h d mX3_colour (tw_qv G o ad h K) 47 [some (.ref o), some (.int x1), some (.int x2), some (.int x3), some (.int (x4 + (1 : Int32))), some (.int x5), none, none, none] [] s1) ∧ (y2 = 0 → tw_T G l o ad h d mX3_colour (tw_qv G o ad h K) 47 [some (.ref o), some (.int x1), some (.int x2), some (.int x3), some (.int x4), some (.int x5), none, none, none] [] s1))) ∧ (¬ x7 = 0 → tw_ci G l o ad h d mX3_isSoFar [.ref o, .int x1, .int (x5 ||| x6), .int ((x6 <<< ((1 : Int32) &&& 31)) - (1 : Int32))] s (fun y4 s3 => (¬ y4 = 0 → tw_T G l o ad h d mX3_colour (tw_qv G o ad h K) 47 [some (.ref o), some (.int x1), some (.int x2), some (.int x3), some (.int (x4 + (1 : Int32))), some (.int (x5 ||| x6)), none, none, none] [] s3) ∧ (y4 = 0 → tw_T G l o ad h d mX3_colour (tw_qv G o ad h K) 47 [some (.ref o), some (.int x1), some (.int x2), some (.int x3), some (.int x4), some (.int x5), none, none, none] [] s3)))) : tw_T G l o ad h d mX3_colour (tw_qv G o ad h K) 208 [some (.ref o), some (.int x1), some (.int x2), some (.int x3), some (.int x4), some (.int x5), some (.int x6), some (.int x7), none] [] s := by
  refine wq_iload (pc := 208) dX3_colour_208 rfl ?_
  refine wq_if_eq (pc := 210) (tgt := 221) dX3_colour_210 rfl (fun c => ?_) (fun c => ?_)
  · have V := V.1 c
    refine wq_iload (pc := 221) dX3_colour_221 rfl ?_
    refine wq_istore (L' := [some (.ref o), some (.int x1), some (.int x2), some (.int x3), some (.int x4), some (.int x5), some (.int x6), some (.int x7), some (.int x5)]) (pc := 223) dX3_colour_223 (Nat.le_of_ble_eq_true rfl) rfl ?_
    refine wq_aload_n (pc := 225) dX3_colour_225 rfl rfl ?_
    refine wq_iload_n (pc := 226) dX3_colour_226 rfl rfl ?_
    refine wq_iload (pc := 227) dX3_colour_227 rfl ?_
    refine wq_iload (pc := 229) dX3_colour_229 rfl ?_
    refine wq_iconst (pc := 231) dX3_colour_231 csti1 ?_
    refine wq_ishl (pc := 232) dX3_colour_232 ?_
    refine wq_iconst (pc := 233) dX3_colour_233 csti1 ?_
    refine wq_isub (pc := 234) dX3_colour_234 ?_
    refine tcq2232 (pc := 235) (As := [.int x1, .int x5, .int ((x6 <<< ((1 : Int32) &&& 31)) - (1 : Int32))]) (st := []) rfl dX3_colour_235 rfl (Nat.le_of_ble_eq_true rfl) V (tw_ki (fun y2 s1 V => ?_))
    refine wq_if_ne (pc := 238) (tgt := 244) dX3_colour_238 rfl (fun c => ?_) (fun c => ?_)
    · have V := V.1 c
      refine wq_iload (pc := 244) dX3_colour_244 rfl ?_
      refine wq_istore (L' := [some (.ref o), some (.int x1), some (.int x2), some (.int x3), some (.int x4), some (.int x5), some (.int x6), some (.int x7), some (.int x5)]) (pc := 246) dX3_colour_246 (Nat.le_of_ble_eq_true rfl) rfl ?_
      refine wq_iinc (L' := [some (.ref o), some (.int x1), some (.int x2), some (.int x3), some (.int (x4 + (1 : Int32))), some (.int x5), some (.int x6), some (.int x7), some (.int x5)]) (pc := 248) dX3_colour_248 rfl (by rw [csti1]) (Nat.le_of_ble_eq_true rfl) rfl ?_
      refine wq_goto (pc := 251) (tgt := 47) dX3_colour_251 rfl ?_
      exact wq_T.less V ⟨rfl, ⟨rfl, ⟨rfl, ⟨rfl, ⟨rfl, ⟨rfl, trivial⟩⟩⟩⟩⟩⟩
    · have V := V.2 c
      refine wq_goto (pc := 241) (tgt := 47) dX3_colour_241 rfl ?_
      exact wq_T.less V ⟨rfl, ⟨rfl, ⟨rfl, ⟨rfl, ⟨rfl, ⟨rfl, trivial⟩⟩⟩⟩⟩⟩
  · have V := V.2 c
    refine wq_iload (pc := 213) dX3_colour_213 rfl ?_
    refine wq_iload (pc := 215) dX3_colour_215 rfl ?_
    refine wq_ior (pc := 217) dX3_colour_217 ?_
    refine wq_goto (pc := 218) (tgt := 223) dX3_colour_218 rfl ?_
    refine wq_istore (L' := [some (.ref o), some (.int x1), some (.int x2), some (.int x3), some (.int x4), some (.int x5), some (.int x6), some (.int x7), some (.int (x5 ||| x6))]) (pc := 223) dX3_colour_223 (Nat.le_of_ble_eq_true rfl) rfl ?_
    refine wq_aload_n (pc := 225) dX3_colour_225 rfl rfl ?_
    refine wq_iload_n (pc := 226) dX3_colour_226 rfl rfl ?_
    refine wq_iload (pc := 227) dX3_colour_227 rfl ?_
    refine wq_iload (pc := 229) dX3_colour_229 rfl ?_
    refine wq_iconst (pc := 231) dX3_colour_231 csti1 ?_
    refine wq_ishl (pc := 232) dX3_colour_232 ?_
    refine wq_iconst (pc := 233) dX3_colour_233 csti1 ?_
    refine wq_isub (pc := 234) dX3_colour_234 ?_
    refine tcq2232 (pc := 235) (As := [.int x1, .int (x5 ||| x6), .int ((x6 <<< ((1 : Int32) &&& 31)) - (1 : Int32))]) (st := []) rfl dX3_colour_235 rfl (Nat.le_of_ble_eq_true rfl) V (tw_ki (fun y4 s3 V => ?_))
    refine wq_if_ne (pc := 238) (tgt := 244) dX3_colour_238 rfl (fun c => ?_) (fun c => ?_)
    · have V := V.1 c
      refine wq_iload (pc := 244) dX3_colour_244 rfl ?_
      refine wq_istore (L' := [some (.ref o), some (.int x1), some (.int x2), some (.int x3), some (.int x4), some (.int (x5 ||| x6)), some (.int x6), some (.int x7), some (.int (x5 ||| x6))]) (pc := 246) dX3_colour_246 (Nat.le_of_ble_eq_true rfl) rfl ?_
      refine wq_iinc (L' := [some (.ref o), some (.int x1), some (.int x2), some (.int x3), some (.int (x4 + (1 : Int32))), some (.int (x5 ||| x6)), some (.int x6), some (.int x7), some (.int (x5 ||| x6))]) (pc := 248) dX3_colour_248 rfl (by rw [csti1]) (Nat.le_of_ble_eq_true rfl) rfl ?_
      refine wq_goto (pc := 251) (tgt := 47) dX3_colour_251 rfl ?_
      exact wq_T.less V ⟨rfl, ⟨rfl, ⟨rfl, ⟨rfl, ⟨rfl, ⟨rfl, trivial⟩⟩⟩⟩⟩⟩
    · have V := V.2 c
      refine wq_goto (pc := 241) (tgt := 47) dX3_colour_241 rfl ?_
      exact wq_T.less V ⟨rfl, ⟨rfl, ⟨rfl, ⟨rfl, ⟨rfl, ⟨rfl, trivial⟩⟩⟩⟩⟩⟩
theorem vX3_isSoFar_0 {G : wq_G} {l : Launch} {o : Nat} {ad : Nat → Nat} {h : wq_H} {d : Nat} {K : Int32 → tw_S → Prop} (ok : tw_ok G o ad)  {x1 : Int32} {x2 : Int32} {x3 : Int32} {s : tw_S} (V : tw_T G l o ad h d mX3_isSoFar (tw_qi G o ad h K) 6 [some (.ref o), some (.int x1), some (.int x2), some (.int x3), some (.int (1 : Int32)), some (.int (0 : Int32)), none, none] [] s) : tw_T G l o ad h d mX3_isSoFar (tw_qi G o ad h K) 0 [some (.ref o), some (.int x1), some (.int x2), some (.int x3), none, none, none, none] [] s := by
  refine wq_iconst (pc := 0) dX3_isSoFar_0 csti1 ?_
  refine wq_istore (L' := [some (.ref o), some (.int x1), some (.int x2), some (.int x3), some (.int (1 : Int32)), none, none, none]) (pc := 1) dX3_isSoFar_1 (Nat.le_of_ble_eq_true rfl) rfl ?_
  refine wq_iconst (pc := 3) dX3_isSoFar_3 csti0 ?_
  refine wq_istore (L' := [some (.ref o), some (.int x1), some (.int x2), some (.int x3), some (.int (1 : Int32)), some (.int (0 : Int32)), none, none]) (pc := 4) dX3_isSoFar_4 (Nat.le_of_ble_eq_true rfl) rfl ?_
  exact V
theorem vX3_isSoFar_6 {G : wq_G} {l : Launch} {o : Nat} {ad : Nat → Nat} {h : wq_H} {d : Nat} {K : Int32 → tw_S → Prop} (ok : tw_ok G o ad)  {x1 : Int32} {x2 : Int32} {x3 : Int32} {x4 : Int32} {x5 : Int32} {s : tw_S} (V : ((s.1 34) ≤ x5 → (x4 = 0 ∨ x4 = 1) ∧ K x4 s) ∧ (¬ (s.1 34) ≤ x5 → (x4 = 0 → (x4 = 0 ∨ x4 = 1) ∧ K x4 s) ∧ (¬ x4 = 0 → tw_ld s 32 x5 (fun y1 => ((y1 &&& (x1 ^^^ (-1 : Int32))) = 0 → tw_ci G l o ad h d mX3_bits [.int (y1 &&& x2)] s (fun y3 s2 => ((2 : Int32) ≤ y3 → tw_T G l o ad h d mX3_isSoFar (tw_qi G o ad h K) 6 [some (.ref o), some (.int x1), some (.int x2), some (.int x3), some (.int (0 : Int32)), some (.int (x5 + (1 : Int32))), none, none] [] s2) ∧ (¬ (2 : Int32) ≤ y3 → (¬ (y1 &&& (x3 ^^^ (-1 : Int32))) = 0 → tw_T G l o ad h d mX3_isSoFar (tw_qi G o ad h K) 6 [some (.ref o), some (.int x1), some (.int x2), some (.int x3), some (.int (1 : Int32)), some (.int (x5 + (1 : Int32))), none, none] [] s2) ∧ ((y1 &&& (x3 ^^^ (-1 : Int32))) = 0 → (¬ y3 = (1 : Int32) → tw_T G l o ad h d mX3_isSoFar (tw_qi G o ad h K) 6 [some (.ref o), some (.int x1), some (.int x2), some (.int x3), some (.int (0 : Int32)), some (.int (x5 + (1 : Int32))), none, none] [] s2) ∧ (y3 = (1 : Int32) → tw_T G l o ad h d mX3_isSoFar (tw_qi G o ad h K) 6 [some (.ref o), some (.int x1), some (.int x2), some (.int x3), some (.int (1 : Int32)), some (.int (x5 + (1 : Int32))), none, none] [] s2))))) ∧ (¬ (y1 &&& (x1 ^^^ (-1 : Int32))) = 0 → tw_T G l o ad h d mX3_isSoFar (tw_qi G o ad h K) 6 [some (.ref o), some (.int x1), some (.int x2), some (.int x3), some (.int x4), some (.int (x5 + (1 : Int32))), none, none] [] s))))) : tw_T G l o ad h d mX3_isSoFar (tw_qi G o ad h K) 6 [some (.ref o), some (.int x1), some (.int x2), some (.int x3), some (.int x4), some (.int x5), none, none] [] s := by
  refine wq_iload (pc := 6) dX3_isSoFar_6 rfl ?_
  refine wq_aload_n (pc := 8) dX3_isSoFar_8 rfl rfl ?_
  refine tg34 (pc := 9) rfl dX3_isSoFar_9 ?_
  refine wq_icmp_ge (pc := 12) (tgt := 84) dX3_isSoFar_12 rfl (fun c => ?_) (fun c => ?_)
  · have V := V.1 c
    refine wq_iload (pc := 84) dX3_isSoFar_84 rfl ?_
    refine wq_zret (pc := 86) dX3_isSoFar_86 rfl (tw_z V.1).1 ⟨_, _, rfl, rfl, V.2⟩
  · have V := V.2 c
    refine wq_iload (pc := 15) dX3_isSoFar_15 rfl ?_
    refine wq_if_eq (pc := 17) (tgt := 84) dX3_isSoFar_17 rfl (fun c => ?_) (fun c => ?_)
    · have V := V.1 c
      refine wq_iload (pc := 84) dX3_isSoFar_84 rfl ?_
      refine wq_zret (pc := 86) dX3_isSoFar_86 rfl (tw_z V.1).1 ⟨_, _, rfl, rfl, V.2⟩
    · have V := V.2 c
      refine wq_aload_n (pc := 20) dX3_isSoFar_20 rfl rfl ?_
      refine tg32 (pc := 21) rfl dX3_isSoFar_21 ?_
      refine wq_iload (pc := 24) dX3_isSoFar_24 rfl ?_
      refine tw_iald' (pc := 26) ok mia32 dX3_isSoFar_26 V (fun y1 V => ?_)
      refine wq_istore (L' := [some (.ref o), some (.int x1), some (.int x2), some (.int x3), some (.int x4), some (.int x5), some (.int y1), none]) (pc := 27) dX3_isSoFar_27 (Nat.le_of_ble_eq_true rfl) rfl ?_
      refine wq_iload (pc := 29) dX3_isSoFar_29 rfl ?_
      refine wq_iload_n (pc := 31) dX3_isSoFar_31 rfl rfl ?_
      refine wq_iconst (pc := 32) dX3_isSoFar_32 cstim1 ?_
      refine wq_ixor (pc := 33) dX3_isSoFar_33 ?_
      refine wq_iand (pc := 34) dX3_isSoFar_34 ?_
      refine wq_if_eq (pc := 35) (tgt := 41) dX3_isSoFar_35 rfl (fun c => ?_) (fun c => ?_)
      · have V := V.1 c
        refine wq_iload (pc := 41) dX3_isSoFar_41 rfl ?_
        refine wq_iload_n (pc := 43) dX3_isSoFar_43 rfl rfl ?_
        refine wq_iand (pc := 44) dX3_isSoFar_44 ?_
        refine tcq2107 (pc := 45) (As := [.int (y1 &&& x2)]) (st := []) rfl dX3_isSoFar_45 rfl (Nat.le_of_ble_eq_true rfl) V (tw_ki (fun y3 s2 V => ?_))
        refine wq_istore (L' := [some (.ref o), some (.int x1), some (.int x2), some (.int x3), some (.int x4), some (.int x5), some (.int y1), some (.int y3)]) (pc := 48) dX3_isSoFar_48 (Nat.le_of_ble_eq_true rfl) rfl ?_
        refine wq_iload (pc := 50) dX3_isSoFar_50 rfl ?_
        refine wq_iconst (pc := 52) dX3_isSoFar_52 csti2 ?_
        refine wq_icmp_ge (pc := 53) (tgt := 75) dX3_isSoFar_53 rfl (fun c => ?_) (fun c => ?_)
        · have V := V.1 c
          refine wq_iconst (pc := 75) dX3_isSoFar_75 csti0 ?_
          refine wq_istore (L' := [some (.ref o), some (.int x1), some (.int x2), some (.int x3), some (.int (0 : Int32)), some (.int x5), some (.int y1), some (.int y3)]) (pc := 76) dX3_isSoFar_76 (Nat.le_of_ble_eq_true rfl) rfl ?_
          refine wq_iinc (L' := [some (.ref o), some (.int x1), some (.int x2), some (.int x3), some (.int (0 : Int32)), some (.int (x5 + (1 : Int32))), some (.int y1), some (.int y3)]) (pc := 78) dX3_isSoFar_78 rfl (by rw [csti1]) (Nat.le_of_ble_eq_true rfl) rfl ?_
          refine wq_goto (pc := 81) (tgt := 6) dX3_isSoFar_81 rfl ?_
          exact wq_T.less V ⟨rfl, ⟨rfl, ⟨rfl, ⟨rfl, ⟨rfl, ⟨rfl, trivial⟩⟩⟩⟩⟩⟩
        · have V := V.2 c
          refine wq_iload (pc := 56) dX3_isSoFar_56 rfl ?_
          refine wq_iload_n (pc := 58) dX3_isSoFar_58 rfl rfl ?_
          refine wq_iconst (pc := 59) dX3_isSoFar_59 cstim1 ?_
          refine wq_ixor (pc := 60) dX3_isSoFar_60 ?_
          refine wq_iand (pc := 61) dX3_isSoFar_61 ?_
          refine wq_if_ne (pc := 62) (tgt := 71) dX3_isSoFar_62 rfl (fun c => ?_) (fun c => ?_)
          · have V := V.1 c
            refine wq_iconst (pc := 71) dX3_isSoFar_71 csti1 ?_
            refine wq_goto (pc := 72) (tgt := 76) dX3_isSoFar_72 rfl ?_
            refine wq_istore (L' := [some (.ref o), some (.int x1), some (.int x2), some (.int x3), some (.int (1 : Int32)), some (.int x5), some (.int y1), some (.int y3)]) (pc := 76) dX3_isSoFar_76 (Nat.le_of_ble_eq_true rfl) rfl ?_
            refine wq_iinc (L' := [some (.ref o), some (.int x1), some (.int x2), some (.int x3), some (.int (1 : Int32)), some (.int (x5 + (1 : Int32))), some (.int y1), some (.int y3)]) (pc := 78) dX3_isSoFar_78 rfl (by rw [csti1]) (Nat.le_of_ble_eq_true rfl) rfl ?_
            refine wq_goto (pc := 81) (tgt := 6) dX3_isSoFar_81 rfl ?_
            exact wq_T.less V ⟨rfl, ⟨rfl, ⟨rfl, ⟨rfl, ⟨rfl, ⟨rfl, trivial⟩⟩⟩⟩⟩⟩
          · have V := V.2 c
            refine wq_iload (pc := 65) dX3_isSoFar_65 rfl ?_
            refine wq_iconst (pc := 67) dX3_isSoFar_67 csti1 ?_
            refine wq_icmp_ne (pc := 68) (tgt := 75) dX3_isSoFar_68 rfl (fun c => ?_) (fun c => ?_)
            · have V := V.1 c
              refine wq_iconst (pc := 75) dX3_isSoFar_75 csti0 ?_
              refine wq_istore (L' := [some (.ref o), some (.int x1), some (.int x2), some (.int x3), some (.int (0 : Int32)), some (.int x5), some (.int y1), some (.int y3)]) (pc := 76) dX3_isSoFar_76 (Nat.le_of_ble_eq_true rfl) rfl ?_
              refine wq_iinc (L' := [some (.ref o), some (.int x1), some (.int x2), some (.int x3), some (.int (0 : Int32)), some (.int (x5 + (1 : Int32))), some (.int y1), some (.int y3)]) (pc := 78) dX3_isSoFar_78 rfl (by rw [csti1]) (Nat.le_of_ble_eq_true rfl) rfl ?_
              refine wq_goto (pc := 81) (tgt := 6) dX3_isSoFar_81 rfl ?_
              exact wq_T.less V ⟨rfl, ⟨rfl, ⟨rfl, ⟨rfl, ⟨rfl, ⟨rfl, trivial⟩⟩⟩⟩⟩⟩
            · have V := V.2 c
              refine wq_iconst (pc := 71) dX3_isSoFar_71 csti1 ?_
              refine wq_goto (pc := 72) (tgt := 76) dX3_isSoFar_72 rfl ?_
              refine wq_istore (L' := [some (.ref o), some (.int x1), some (.int x2), some (.int x3), some (.int (1 : Int32)), some (.int x5), some (.int y1), some (.int y3)]) (pc := 76) dX3_isSoFar_76 (Nat.le_of_ble_eq_true rfl) rfl ?_
              refine wq_iinc (L' := [some (.ref o), some (.int x1), some (.int x2), some (.int x3), some (.int (1 : Int32)), some (.int (x5 + (1 : Int32))), some (.int y1), some (.int y3)]) (pc := 78) dX3_isSoFar_78 rfl (by rw [csti1]) (Nat.le_of_ble_eq_true rfl) rfl ?_
              refine wq_goto (pc := 81) (tgt := 6) dX3_isSoFar_81 rfl ?_
              exact wq_T.less V ⟨rfl, ⟨rfl, ⟨rfl, ⟨rfl, ⟨rfl, ⟨rfl, trivial⟩⟩⟩⟩⟩⟩
      · have V := V.2 c
        refine wq_goto (pc := 38) (tgt := 78) dX3_isSoFar_38 rfl ?_
        refine wq_iinc (L' := [some (.ref o), some (.int x1), some (.int x2), some (.int x3), some (.int x4), some (.int (x5 + (1 : Int32))), some (.int y1), none]) (pc := 78) dX3_isSoFar_78 rfl (by rw [csti1]) (Nat.le_of_ble_eq_true rfl) rfl ?_
        refine wq_goto (pc := 81) (tgt := 6) dX3_isSoFar_81 rfl ?_
        exact wq_T.less V ⟨rfl, ⟨rfl, ⟨rfl, ⟨rfl, ⟨rfl, ⟨rfl, trivial⟩⟩⟩⟩⟩⟩
theorem vX3_ones_0 {G : wq_G} {l : Launch} {o : Nat} {ad : Nat → Nat} {h : wq_H} {d : Nat} {K : Int32 → tw_S → Prop} (ok : tw_ok G o ad)   {s : tw_S} (V : tw_cv G l o ad h d mX3_good [.ref o] s (fun s1 => (¬ (s1.1 14) = 0 → tw_cv G l o ad h d mX3_layCorners [.ref o] s1 (fun s2 => tw_ci G l o ad h d mX3_allRays [.ref o] s2 (fun y4 s3 => tw_cv G l o ad h d mX3_colour [.ref o, .int y4, .int (1048576 : Int32)] s3 (fun s5 => (¬ (s5.1 36) = 0 → K (s5.1 37) s5) ∧ ((s5.1 36) = 0 → tw_ci G l o ad h d mX3_no [.ref o, .int (6 : Int32)] s5 (fun y7 s6 => K y7 s6)))))) ∧ ((s1.1 14) = 0 → tw_ci G l o ad h d mX3_no [.ref o, .int (1 : Int32)] s1 (fun y9 s8 => K y9 s8)))) : tw_T G l o ad h d mX3_ones (tw_qi G o ad h K) 0 [some (.ref o)] [] s := by
  refine wq_aload_n (pc := 0) dX3_ones_0 rfl rfl ?_
  refine tcq1836 (pc := 1) (As := []) (st := []) rfl dX3_ones_1 rfl (Nat.le_of_ble_eq_true rfl) V (tw_kv (fun s1 V => ?_))
  refine wq_aload_n (pc := 4) dX3_ones_4 rfl rfl ?_
  refine tg14 (pc := 5) rfl dX3_ones_5 ?_
  refine wq_if_ne (pc := 8) (tgt := 17) dX3_ones_8 rfl (fun c => ?_) (fun c => ?_)
  · have V := V.1 c
    refine wq_aload_n (pc := 17) dX3_ones_17 rfl rfl ?_
    refine tcq2215 (pc := 18) (As := []) (st := []) rfl dX3_ones_18 rfl (Nat.le_of_ble_eq_true rfl) V (tw_kv (fun s2 V => ?_))
    refine wq_aload_n (pc := 21) dX3_ones_21 rfl rfl ?_
    refine wq_aload_n (pc := 22) dX3_ones_22 rfl rfl ?_
    refine tcq2223 (pc := 23) (As := []) (st := [.ref o]) rfl dX3_ones_23 rfl (Nat.le_of_ble_eq_true rfl) V (tw_ki (fun y4 s3 V => ?_))
    refine wq_ldcw (pc := 26) (v := (1048576 : Int32)) q2227 dX3_ones_26 ?_
    refine tcq2228 (pc := 29) (As := [.int y4, .int (1048576 : Int32)]) (st := []) rfl dX3_ones_29 rfl (Nat.le_of_ble_eq_true rfl) V (tw_kv (fun s5 V => ?_))
    refine wq_aload_n (pc := 32) dX3_ones_32 rfl rfl ?_
    refine tg36 (pc := 33) rfl dX3_ones_33 ?_
    refine wq_if_ne (pc := 36) (tgt := 48) dX3_ones_36 rfl (fun c => ?_) (fun c => ?_)
    · have V := V.1 c
      refine wq_aload_n (pc := 48) dX3_ones_48 rfl rfl ?_
      refine tg37 (pc := 49) rfl dX3_ones_49 ?_
      refine wq_iret (pc := 52) dX3_ones_52 rfl ⟨_, _, rfl, rfl, V⟩
    · have V := V.2 c
      refine wq_aload_n (pc := 39) dX3_ones_39 rfl rfl ?_
      refine wq_bipush (pc := 40) dX3_ones_40 cstb6 ?_
      refine tcq1843 (pc := 42) (As := [.int (6 : Int32)]) (st := []) rfl dX3_ones_42 rfl (Nat.le_of_ble_eq_true rfl) V (tw_ki (fun y7 s6 V => ?_))
      refine wq_goto (pc := 45) (tgt := 52) dX3_ones_45 rfl ?_
      refine wq_iret (pc := 52) dX3_ones_52 rfl ⟨_, _, rfl, rfl, V⟩
  · have V := V.2 c
    refine wq_aload_n (pc := 11) dX3_ones_11 rfl rfl ?_
    refine wq_iconst (pc := 12) dX3_ones_12 csti1 ?_
    refine tcq1843 (pc := 13) (As := [.int (1 : Int32)]) (st := []) rfl dX3_ones_13 rfl (Nat.le_of_ble_eq_true rfl) V (tw_ki (fun y9 s8 V => ?_))
    refine wq_iret (pc := 16) dX3_ones_16 rfl ⟨_, _, rfl, rfl, V⟩
theorem vX3_spare_0 {G : wq_G} {l : Launch} {o : Nat} {ad : Nat → Nat} {h : wq_H} {d : Nat} {K : Int32 → tw_S → Prop} (ok : tw_ok G o ad)   {s : tw_S} (V : tw_cv G l o ad h d mX3_good [.ref o] s (fun s1 => (¬ (s1.1 14) = 0 → tw_cv G l o ad h d mX3_layCorners [.ref o] s1 (fun s2 => tw_ci G l o ad h d mX3_allRays [.ref o] s2 (fun y4 s3 => tw_ci G l o ad h d mX3_hasColour [.ref o, .int y4] s3 (fun y6 s5 => (y6 = 0 → tw_T G l o ad h d mX3_spare (tw_qi G o ad h K) 38 [some (.ref o), some (.int (0 : Int32)), some (.int (0 : Int32))] [] s5) ∧ (¬ y6 = 0 → K (0 : Int32) s5))))) ∧ ((s1.1 14) = 0 → tw_ci G l o ad h d mX3_no [.ref o, .int (1 : Int32)] s1 (fun y8 s7 => K y8 s7)))) : tw_T G l o ad h d mX3_spare (tw_qi G o ad h K) 0 [some (.ref o), none, none] [] s := by
  refine wq_aload_n (pc := 0) dX3_spare_0 rfl rfl ?_
  refine tcq1836 (pc := 1) (As := []) (st := []) rfl dX3_spare_1 rfl (Nat.le_of_ble_eq_true rfl) V (tw_kv (fun s1 V => ?_))
  refine wq_aload_n (pc := 4) dX3_spare_4 rfl rfl ?_
  refine tg14 (pc := 5) rfl dX3_spare_5 ?_
  refine wq_if_ne (pc := 8) (tgt := 17) dX3_spare_8 rfl (fun c => ?_) (fun c => ?_)
  · have V := V.1 c
    refine wq_aload_n (pc := 17) dX3_spare_17 rfl rfl ?_
    refine tcq2215 (pc := 18) (As := []) (st := []) rfl dX3_spare_18 rfl (Nat.le_of_ble_eq_true rfl) V (tw_kv (fun s2 V => ?_))
    refine wq_aload_n (pc := 21) dX3_spare_21 rfl rfl ?_
    refine wq_aload_n (pc := 22) dX3_spare_22 rfl rfl ?_
    refine tcq2223 (pc := 23) (As := []) (st := [.ref o]) rfl dX3_spare_23 rfl (Nat.le_of_ble_eq_true rfl) V (tw_ki (fun y4 s3 V => ?_))
    refine tcq2244 (pc := 26) (As := [.int y4]) (st := []) rfl dX3_spare_26 rfl (Nat.le_of_ble_eq_true rfl) V (tw_ki (fun y6 s5 V => ?_))
    refine wq_if_eq (pc := 29) (tgt := 34) dX3_spare_29 rfl (fun c => ?_) (fun c => ?_)
    · have V := V.1 c
      refine wq_iconst (pc := 34) dX3_spare_34 csti0 ?_
      refine wq_istore_n (L' := [some (.ref o), some (.int (0 : Int32)), none]) (pc := 35) dX3_spare_35 rfl (Nat.le_of_ble_eq_true rfl) rfl ?_
      refine wq_iconst (pc := 36) dX3_spare_36 csti0 ?_
      refine wq_istore_n (L' := [some (.ref o), some (.int (0 : Int32)), some (.int (0 : Int32))]) (pc := 37) dX3_spare_37 rfl (Nat.le_of_ble_eq_true rfl) rfl ?_
      exact V
    · have V := V.2 c
      refine wq_iconst (pc := 32) dX3_spare_32 csti0 ?_
      refine wq_iret (pc := 33) dX3_spare_33 rfl ⟨_, _, rfl, rfl, V⟩
  · have V := V.2 c
    refine wq_aload_n (pc := 11) dX3_spare_11 rfl rfl ?_
    refine wq_iconst (pc := 12) dX3_spare_12 csti1 ?_
    refine tcq1843 (pc := 13) (As := [.int (1 : Int32)]) (st := []) rfl dX3_spare_13 rfl (Nat.le_of_ble_eq_true rfl) V (tw_ki (fun y8 s7 V => ?_))
    refine wq_iret (pc := 16) dX3_spare_16 rfl ⟨_, _, rfl, rfl, V⟩
theorem vX3_spare_38 {G : wq_G} {l : Launch} {o : Nat} {ad : Nat → Nat} {h : wq_H} {d : Nat} {K : Int32 → tw_S → Prop} (ok : tw_ok G o ad)  {x1 : Int32} {x2 : Int32} {s : tw_S} (V : tw_ld s 15 (85 : Int32) (fun y1 => (y1 ≤ x2 → K x1 s) ∧ (¬ y1 ≤ x2 → tw_ci G l o ad h d mX3_allRays [.ref o] s (fun y3 s2 => tw_ci G l o ad h d mX3_hasColour [.ref o, .int (y3 &&& (((1 : Int32) <<< (x2 &&& 31)) ^^^ (-1 : Int32)))] s2 (fun y5 s4 => (y5 = 0 → tw_T G l o ad h d mX3_spare (tw_qi G o ad h K) 38 [some (.ref o), some (.int (x1 ||| ((1 : Int32) <<< (x2 &&& 31)))), some (.int (x2 + (1 : Int32)))] [] s4) ∧ (¬ y5 = 0 → tw_T G l o ad h d mX3_spare (tw_qi G o ad h K) 38 [some (.ref o), some (.int (x1 ||| (0 : Int32))), some (.int (x2 + (1 : Int32)))] [] s4)))))) : tw_T G l o ad h d mX3_spare (tw_qi G o ad h K) 38 [some (.ref o), some (.int x1), some (.int x2)] [] s := by
  refine wq_iload_n (pc := 38) dX3_spare_38 rfl rfl ?_
  refine wq_aload_n (pc := 39) dX3_spare_39 rfl rfl ?_
  refine tg15 (pc := 40) rfl dX3_spare_40 ?_
  refine wq_bipush (pc := 43) dX3_spare_43 cstb85 ?_
  refine tw_iald' (pc := 45) ok mia15 dX3_spare_45 V (fun y1 V => ?_)
  refine wq_icmp_ge (pc := 46) (tgt := 82) dX3_spare_46 rfl (fun c => ?_) (fun c => ?_)
  · have V := V.1 c
    refine wq_iload_n (pc := 82) dX3_spare_82 rfl rfl ?_
    refine wq_iret (pc := 83) dX3_spare_83 rfl ⟨_, _, rfl, rfl, V⟩
  · have V := V.2 c
    refine wq_iload_n (pc := 49) dX3_spare_49 rfl rfl ?_
    refine wq_aload_n (pc := 50) dX3_spare_50 rfl rfl ?_
    refine wq_aload_n (pc := 51) dX3_spare_51 rfl rfl ?_
    refine tcq2223 (pc := 52) (As := []) (st := [.ref o, .int x1]) rfl dX3_spare_52 rfl (Nat.le_of_ble_eq_true rfl) V (tw_ki (fun y3 s2 V => ?_))
    refine wq_iconst (pc := 55) dX3_spare_55 csti1 ?_
    refine wq_iload_n (pc := 56) dX3_spare_56 rfl rfl ?_
    refine wq_ishl (pc := 57) dX3_spare_57 ?_
    refine wq_iconst (pc := 58) dX3_spare_58 cstim1 ?_
    refine wq_ixor (pc := 59) dX3_spare_59 ?_
    refine wq_iand (pc := 60) dX3_spare_60 ?_
    refine tcq2244 (pc := 61) (As := [.int (y3 &&& (((1 : Int32) <<< (x2 &&& 31)) ^^^ (-1 : Int32)))]) (st := [.int x1]) rfl dX3_spare_61 rfl (Nat.le_of_ble_eq_true rfl) V (tw_ki (fun y5 s4 V => ?_))
    refine wq_if_eq (pc := 64) (tgt := 71) dX3_spare_64 rfl (fun c => ?_) (fun c => ?_)
    · have V := V.1 c
      refine wq_iconst (pc := 71) dX3_spare_71 csti1 ?_
      refine wq_iload_n (pc := 72) dX3_spare_72 rfl rfl ?_
      refine wq_ishl (pc := 73) dX3_spare_73 ?_
      refine wq_ior (pc := 74) dX3_spare_74 ?_
      refine wq_istore_n (L' := [some (.ref o), some (.int (x1 ||| ((1 : Int32) <<< (x2 &&& 31)))), some (.int x2)]) (pc := 75) dX3_spare_75 rfl (Nat.le_of_ble_eq_true rfl) rfl ?_
      refine wq_iinc (L' := [some (.ref o), some (.int (x1 ||| ((1 : Int32) <<< (x2 &&& 31)))), some (.int (x2 + (1 : Int32)))]) (pc := 76) dX3_spare_76 rfl (by rw [csti1]) (Nat.le_of_ble_eq_true rfl) rfl ?_
      refine wq_goto (pc := 79) (tgt := 38) dX3_spare_79 rfl ?_
      exact V
    · have V := V.2 c
      refine wq_iconst (pc := 67) dX3_spare_67 csti0 ?_
      refine wq_goto (pc := 68) (tgt := 74) dX3_spare_68 rfl ?_
      refine wq_ior (pc := 74) dX3_spare_74 ?_
      refine wq_istore_n (L' := [some (.ref o), some (.int (x1 ||| (0 : Int32))), some (.int x2)]) (pc := 75) dX3_spare_75 rfl (Nat.le_of_ble_eq_true rfl) rfl ?_
      refine wq_iinc (L' := [some (.ref o), some (.int (x1 ||| (0 : Int32))), some (.int (x2 + (1 : Int32)))]) (pc := 76) dX3_spare_76 rfl (by rw [csti1]) (Nat.le_of_ble_eq_true rfl) rfl ?_
      refine wq_goto (pc := 79) (tgt := 38) dX3_spare_79 rfl ?_
      exact V
theorem vX3_hasColour_0 {G : wq_G} {l : Launch} {o : Nat} {ad : Nat → Nat} {h : wq_H} {d : Nat} {K : Int32 → tw_S → Prop} (ok : tw_ok G o ad)  {x1 : Int32} {s : tw_S} (V : tw_cv G l o ad h d mX3_colour [.ref o, .int x1, .int (1 : Int32)] s (fun s1 => ((s1.1 36) ≤ 0 → K (0 : Int32) s1) ∧ (¬ (s1.1 36) ≤ 0 → K (1 : Int32) s1))) : tw_T G l o ad h d mX3_hasColour (tw_qi G o ad h K) 0 [some (.ref o), some (.int x1)] [] s := by
  refine wq_aload_n (pc := 0) dX3_hasColour_0 rfl rfl ?_
  refine wq_iload_n (pc := 1) dX3_hasColour_1 rfl rfl ?_
  refine wq_iconst (pc := 2) dX3_hasColour_2 csti1 ?_
  refine tcq2228 (pc := 3) (As := [.int x1, .int (1 : Int32)]) (st := []) rfl dX3_hasColour_3 rfl (Nat.le_of_ble_eq_true rfl) V (tw_kv (fun s1 V => ?_))
  refine wq_aload_n (pc := 6) dX3_hasColour_6 rfl rfl ?_
  refine tg36 (pc := 7) rfl dX3_hasColour_7 ?_
  refine wq_if_le (pc := 10) (tgt := 17) dX3_hasColour_10 rfl (fun c => ?_) (fun c => ?_)
  · have V := V.1 c
    refine wq_iconst (pc := 17) dX3_hasColour_17 csti0 ?_
    refine wq_zret (pc := 18) dX3_hasColour_18 rfl tw_nb0 ⟨_, _, rfl, rfl, V⟩
  · have V := V.2 c
    refine wq_iconst (pc := 13) dX3_hasColour_13 csti1 ?_
    refine wq_goto (pc := 14) (tgt := 18) dX3_hasColour_14 rfl ?_
    refine wq_zret (pc := 18) dX3_hasColour_18 rfl tw_nb1 ⟨_, _, rfl, rfl, V⟩
theorem vX3_critical_0 {G : wq_G} {l : Launch} {o : Nat} {ad : Nat → Nat} {h : wq_H} {d : Nat} {K : Int32 → tw_S → Prop} (ok : tw_ok G o ad)   {s : tw_S} (V : tw_cv G l o ad h d mX3_good [.ref o] s (fun s1 => (¬ (s1.1 14) = 0 → tw_cv G l o ad h d mX3_layCorners [.ref o] s1 (fun s2 => tw_ci G l o ad h d mX3_allRays [.ref o] s2 (fun y4 s3 => tw_ci G l o ad h d mX3_hasColour [.ref o, .int y4] s3 (fun y6 s5 => (y6 = 0 → tw_ci G l o ad h d mX3_allRays [.ref o] s5 (fun y8 s7 => tw_T G l o ad h d mX3_critical (tw_qi G o ad h K) 46 [some (.ref o), some (.int y8), some (.int (0 : Int32))] [] s7)) ∧ (¬ y6 = 0 → tw_ci G l o ad h d mX3_no [.ref o, .int (6 : Int32)] s5 (fun y10 s9 => K y10 s9)))))) ∧ ((s1.1 14) = 0 → tw_ci G l o ad h d mX3_no [.ref o, .int (1 : Int32)] s1 (fun y12 s11 => K y12 s11)))) : tw_T G l o ad h d mX3_critical (tw_qi G o ad h K) 0 [some (.ref o), none, none] [] s := by
  refine wq_aload_n (pc := 0) dX3_critical_0 rfl rfl ?_
  refine tcq1836 (pc := 1) (As := []) (st := []) rfl dX3_critical_1 rfl (Nat.le_of_ble_eq_true rfl) V (tw_kv (fun s1 V => ?_))
  refine wq_aload_n (pc := 4) dX3_critical_4 rfl rfl ?_
  refine tg14 (pc := 5) rfl dX3_critical_5 ?_
  refine wq_if_ne (pc := 8) (tgt := 17) dX3_critical_8 rfl (fun c => ?_) (fun c => ?_)
  · have V := V.1 c
    refine wq_aload_n (pc := 17) dX3_critical_17 rfl rfl ?_
    refine tcq2215 (pc := 18) (As := []) (st := []) rfl dX3_critical_18 rfl (Nat.le_of_ble_eq_true rfl) V (tw_kv (fun s2 V => ?_))
    refine wq_aload_n (pc := 21) dX3_critical_21 rfl rfl ?_
    refine wq_aload_n (pc := 22) dX3_critical_22 rfl rfl ?_
    refine tcq2223 (pc := 23) (As := []) (st := [.ref o]) rfl dX3_critical_23 rfl (Nat.le_of_ble_eq_true rfl) V (tw_ki (fun y4 s3 V => ?_))
    refine tcq2244 (pc := 26) (As := [.int y4]) (st := []) rfl dX3_critical_26 rfl (Nat.le_of_ble_eq_true rfl) V (tw_ki (fun y6 s5 V => ?_))
    refine wq_if_eq (pc := 29) (tgt := 39) dX3_critical_29 rfl (fun c => ?_) (fun c => ?_)
    · have V := V.1 c
      refine wq_aload_n (pc := 39) dX3_critical_39 rfl rfl ?_
      refine tcq2223 (pc := 40) (As := []) (st := []) rfl dX3_critical_40 rfl (Nat.le_of_ble_eq_true rfl) V (tw_ki (fun y8 s7 V => ?_))
      refine wq_istore_n (L' := [some (.ref o), some (.int y8), none]) (pc := 43) dX3_critical_43 rfl (Nat.le_of_ble_eq_true rfl) rfl ?_
      refine wq_iconst (pc := 44) dX3_critical_44 csti0 ?_
      refine wq_istore_n (L' := [some (.ref o), some (.int y8), some (.int (0 : Int32))]) (pc := 45) dX3_critical_45 rfl (Nat.le_of_ble_eq_true rfl) rfl ?_
      exact V
    · have V := V.2 c
      refine wq_aload_n (pc := 32) dX3_critical_32 rfl rfl ?_
      refine wq_bipush (pc := 33) dX3_critical_33 cstb6 ?_
      refine tcq1843 (pc := 35) (As := [.int (6 : Int32)]) (st := []) rfl dX3_critical_35 rfl (Nat.le_of_ble_eq_true rfl) V (tw_ki (fun y10 s9 V => ?_))
      refine wq_iret (pc := 38) dX3_critical_38 rfl ⟨_, _, rfl, rfl, V⟩
  · have V := V.2 c
    refine wq_aload_n (pc := 11) dX3_critical_11 rfl rfl ?_
    refine wq_iconst (pc := 12) dX3_critical_12 csti1 ?_
    refine tcq1843 (pc := 13) (As := [.int (1 : Int32)]) (st := []) rfl dX3_critical_13 rfl (Nat.le_of_ble_eq_true rfl) V (tw_ki (fun y12 s11 V => ?_))
    refine wq_iret (pc := 16) dX3_critical_16 rfl ⟨_, _, rfl, rfl, V⟩
theorem vX3_critical_46 {G : wq_G} {l : Launch} {o : Nat} {ad : Nat → Nat} {h : wq_H} {d : Nat} {K : Int32 → tw_S → Prop} (ok : tw_ok G o ad)  {x1 : Int32} {x2 : Int32} {s : tw_S} (V : tw_ld s 15 (85 : Int32) (fun y1 => (y1 ≤ x2 → K x1 s) ∧ (¬ y1 ≤ x2 → tw_ci G l o ad h d mX3_hasColour [.ref o, .int (x1 &&& (((1 : Int32) <<< (x2 &&& 31)) ^^^ (-1 : Int32)))] s (fun y3 s2 => (¬ y3 = 0 → tw_T G l o ad h d mX3_critical (tw_qi G o ad h K) 46 [some (.ref o), some (.int x1), some (.int (x2 + (1 : Int32)))] [] s2) ∧ (y3 = 0 → tw_T G l o ad h d mX3_critical (tw_qi G o ad h K) 46 [some (.ref o), some (.int (x1 &&& (((1 : Int32) <<< (x2 &&& 31)) ^^^ (-1 : Int32)))), some (.int (x2 + (1 : Int32)))] [] s2))))) : tw_T G l o ad h d mX3_critical (tw_qi G o ad h K) 46 [some (.ref o), some (.int x1), some (.int x2)] [] s := by
  refine wq_iload_n (pc := 46) dX3_critical_46 rfl rfl ?_
  refine wq_aload_n (pc := 47) dX3_critical_47 rfl rfl ?_
  refine tg15 (pc := 48) rfl dX3_critical_48 ?_
  refine wq_bipush (pc := 51) dX3_critical_51 cstb85 ?_
  refine tw_iald' (pc := 53) ok mia15 dX3_critical_53 V (fun y1 V => ?_)
  refine wq_icmp_ge (pc := 54) (tgt := 85) dX3_critical_54 rfl (fun c => ?_) (fun c => ?_)
  · have V := V.1 c
    refine wq_iload_n (pc := 85) dX3_critical_85 rfl rfl ?_
    refine wq_iret (pc := 86) dX3_critical_86 rfl ⟨_, _, rfl, rfl, V⟩
  · have V := V.2 c
    refine wq_aload_n (pc := 57) dX3_critical_57 rfl rfl ?_
    refine wq_iload_n (pc := 58) dX3_critical_58 rfl rfl ?_
    refine wq_iconst (pc := 59) dX3_critical_59 csti1 ?_
    refine wq_iload_n (pc := 60) dX3_critical_60 rfl rfl ?_
    refine wq_ishl (pc := 61) dX3_critical_61 ?_
    refine wq_iconst (pc := 62) dX3_critical_62 cstim1 ?_
    refine wq_ixor (pc := 63) dX3_critical_63 ?_
    refine wq_iand (pc := 64) dX3_critical_64 ?_
    refine tcq2244 (pc := 65) (As := [.int (x1 &&& (((1 : Int32) <<< (x2 &&& 31)) ^^^ (-1 : Int32)))]) (st := []) rfl dX3_critical_65 rfl (Nat.le_of_ble_eq_true rfl) V (tw_ki (fun y3 s2 V => ?_))
    refine wq_if_ne (pc := 68) (tgt := 79) dX3_critical_68 rfl (fun c => ?_) (fun c => ?_)
    · have V := V.1 c
      refine wq_iinc (L' := [some (.ref o), some (.int x1), some (.int (x2 + (1 : Int32)))]) (pc := 79) dX3_critical_79 rfl (by rw [csti1]) (Nat.le_of_ble_eq_true rfl) rfl ?_
      refine wq_goto (pc := 82) (tgt := 46) dX3_critical_82 rfl ?_
      exact V
    · have V := V.2 c
      refine wq_iload_n (pc := 71) dX3_critical_71 rfl rfl ?_
      refine wq_iconst (pc := 72) dX3_critical_72 csti1 ?_
      refine wq_iload_n (pc := 73) dX3_critical_73 rfl rfl ?_
      refine wq_ishl (pc := 74) dX3_critical_74 ?_
      refine wq_iconst (pc := 75) dX3_critical_75 cstim1 ?_
      refine wq_ixor (pc := 76) dX3_critical_76 ?_
      refine wq_iand (pc := 77) dX3_critical_77 ?_
      refine wq_istore_n (L' := [some (.ref o), some (.int (x1 &&& (((1 : Int32) <<< (x2 &&& 31)) ^^^ (-1 : Int32)))), some (.int x2)]) (pc := 78) dX3_critical_78 rfl (Nat.le_of_ble_eq_true rfl) rfl ?_
      refine wq_iinc (L' := [some (.ref o), some (.int (x1 &&& (((1 : Int32) <<< (x2 &&& 31)) ^^^ (-1 : Int32)))), some (.int (x2 + (1 : Int32)))]) (pc := 79) dX3_critical_79 rfl (by rw [csti1]) (Nat.le_of_ble_eq_true rfl) rfl ?_
      refine wq_goto (pc := 82) (tgt := 46) dX3_critical_82 rfl ?_
      exact V
theorem vX3_memory_0 {G : wq_G} {l : Launch} {o : Nat} {ad : Nat → Nat} {h : wq_H} {d : Nat} {K : Int32 → tw_S → Prop} (ok : tw_ok G o ad)   {s : tw_S} (V : tw_cv G l o ad h d mX3_good [.ref o] s (fun s1 => ((s1.1 14) = 0 → tw_ci G l o ad h d mX3_no [.ref o, .int (1 : Int32)] s1 (fun y3 s2 => K y3 s2)) ∧ (¬ (s1.1 14) = 0 → tw_ci G l o ad h d mX3_fewestStates [.ref o] s1 (fun y5 s4 => K y5 s4)))) : tw_T G l o ad h d mX3_memory (tw_qi G o ad h K) 0 [some (.ref o)] [] s := by
  refine wq_aload_n (pc := 0) dX3_memory_0 rfl rfl ?_
  refine tcq1836 (pc := 1) (As := []) (st := []) rfl dX3_memory_1 rfl (Nat.le_of_ble_eq_true rfl) V (tw_kv (fun s1 V => ?_))
  refine wq_aload_n (pc := 4) dX3_memory_4 rfl rfl ?_
  refine tg14 (pc := 5) rfl dX3_memory_5 ?_
  refine wq_if_eq (pc := 8) (tgt := 18) dX3_memory_8 rfl (fun c => ?_) (fun c => ?_)
  · have V := V.1 c
    refine wq_aload_n (pc := 18) dX3_memory_18 rfl rfl ?_
    refine wq_iconst (pc := 19) dX3_memory_19 csti1 ?_
    refine tcq1843 (pc := 20) (As := [.int (1 : Int32)]) (st := []) rfl dX3_memory_20 rfl (Nat.le_of_ble_eq_true rfl) V (tw_ki (fun y3 s2 V => ?_))
    refine wq_iret (pc := 23) dX3_memory_23 rfl ⟨_, _, rfl, rfl, V⟩
  · have V := V.2 c
    refine wq_aload_n (pc := 11) dX3_memory_11 rfl rfl ?_
    refine tcq2256 (pc := 12) (As := []) (st := []) rfl dX3_memory_12 rfl (Nat.le_of_ble_eq_true rfl) V (tw_ki (fun y5 s4 V => ?_))
    refine wq_goto (pc := 15) (tgt := 23) dX3_memory_15 rfl ?_
    refine wq_iret (pc := 23) dX3_memory_23 rfl ⟨_, _, rfl, rfl, V⟩
theorem vX3_fewestStates_0 {G : wq_G} {l : Launch} {o : Nat} {ad : Nat → Nat} {h : wq_H} {d : Nat} {K : Int32 → tw_S → Prop} (ok : tw_ok G o ad)   {s : tw_S} (V : tw_T G l o ad h d mX3_fewestStates (tw_qi G o ad h K) 2 [some (.ref o), some (.int (1 : Int32)), none] [] s) : tw_T G l o ad h d mX3_fewestStates (tw_qi G o ad h K) 0 [some (.ref o), none, none] [] s := by
  refine wq_iconst (pc := 0) dX3_fewestStates_0 csti1 ?_
  refine wq_istore_n (L' := [some (.ref o), some (.int (1 : Int32)), none]) (pc := 1) dX3_fewestStates_1 rfl (Nat.le_of_ble_eq_true rfl) rfl ?_
  exact V
theorem vX3_fewestStates_2 {G : wq_G} {l : Launch} {o : Nat} {ad : Nat → Nat} {h : wq_H} {d : Nat} {K : Int32 → tw_S → Prop} (ok : tw_ok G o ad)  {x1 : Int32} {s : tw_S} (V : ((3 : Int32) < x1 → K (-2 : Int32) s) ∧ (¬ (3 : Int32) < x1 → tw_T G l o ad h d mX3_fewestStates (tw_qi G o ad h K) 9 [some (.ref o), some (.int x1), some (.int (0 : Int32))] [] s)) : tw_T G l o ad h d mX3_fewestStates (tw_qi G o ad h K) 2 [some (.ref o), some (.int x1), none] [] s := by
  refine wq_iload_n (pc := 2) dX3_fewestStates_2 rfl rfl ?_
  refine wq_iconst (pc := 3) dX3_fewestStates_3 csti3 ?_
  refine wq_icmp_gt (pc := 4) (tgt := 54) dX3_fewestStates_4 rfl (fun c => ?_) (fun c => ?_)
  · have V := V.1 c
    refine wq_bipush (pc := 54) dX3_fewestStates_54 cstbm2 ?_
    refine wq_iret (pc := 56) dX3_fewestStates_56 rfl ⟨_, _, rfl, rfl, V⟩
  · have V := V.2 c
    refine wq_iconst (pc := 7) dX3_fewestStates_7 csti0 ?_
    refine wq_istore_n (L' := [some (.ref o), some (.int x1), some (.int (0 : Int32))]) (pc := 8) dX3_fewestStates_8 rfl (Nat.le_of_ble_eq_true rfl) rfl ?_
    exact V
theorem vX3_fewestStates_9 {G : wq_G} {l : Launch} {o : Nat} {ad : Nat → Nat} {h : wq_H} {d : Nat} {K : Int32 → tw_S → Prop} (ok : tw_ok G o ad)  {x1 : Int32} {x2 : Int32} {s : tw_S} (V : ((18 : Int32) ≤ x2 → tw_ci G l o ad h d mX3_tellsAll [.ref o, .int x1, .int (0 : Int32), .int (0 : Int32), .int (0 : Int32)] s (fun y2 s1 => (y2 = 0 → tw_T G l o ad h d mX3_fewestStates (tw_qi G o ad h K) 2 [some (.ref o), some (.int (x1 + (1 : Int32))), none] [] s1) ∧ (¬ y2 = 0 → K x1 s1))) ∧ (¬ (18 : Int32) ≤ x2 → tw_st s 38 x2 (2 : Int32) (fun s3 => tw_st s3 39 x2 (-1 : Int32) (fun s4 => tw_T G l o ad h d mX3_fewestStates (tw_qi G o ad h K) 9 [some (.ref o), some (.int x1), some (.int (x2 + (1 : Int32)))] [] s4)))) : tw_T G l o ad h d mX3_fewestStates (tw_qi G o ad h K) 9 [some (.ref o), some (.int x1), some (.int x2)] [] s := by
  refine wq_iload_n (pc := 9) dX3_fewestStates_9 rfl rfl ?_
  refine wq_bipush (pc := 10) dX3_fewestStates_10 cstb18 ?_
  refine wq_icmp_ge (pc := 12) (tgt := 35) dX3_fewestStates_12 rfl (fun c => ?_) (fun c => ?_)
  · have V := V.1 c
    refine wq_aload_n (pc := 35) dX3_fewestStates_35 rfl rfl ?_
    refine wq_iload_n (pc := 36) dX3_fewestStates_36 rfl rfl ?_
    refine wq_iconst (pc := 37) dX3_fewestStates_37 csti0 ?_
    refine wq_iconst (pc := 38) dX3_fewestStates_38 csti0 ?_
    refine wq_iconst (pc := 39) dX3_fewestStates_39 csti0 ?_
    refine tcq2260 (pc := 40) (As := [.int x1, .int (0 : Int32), .int (0 : Int32), .int (0 : Int32)]) (st := []) rfl dX3_fewestStates_40 rfl (Nat.le_of_ble_eq_true rfl) V (tw_ki (fun y2 s1 V => ?_))
    refine wq_if_eq (pc := 43) (tgt := 48) dX3_fewestStates_43 rfl (fun c => ?_) (fun c => ?_)
    · have V := V.1 c
      refine wq_iinc (L' := [some (.ref o), some (.int (x1 + (1 : Int32))), some (.int x2)]) (pc := 48) dX3_fewestStates_48 rfl (by rw [csti1]) (Nat.le_of_ble_eq_true rfl) rfl ?_
      refine wq_goto (pc := 51) (tgt := 2) dX3_fewestStates_51 rfl ?_
      exact wq_T.less V ⟨rfl, ⟨rfl, trivial⟩⟩
    · have V := V.2 c
      refine wq_iload_n (pc := 46) dX3_fewestStates_46 rfl rfl ?_
      refine wq_iret (pc := 47) dX3_fewestStates_47 rfl ⟨_, _, rfl, rfl, V⟩
  · have V := V.2 c
    refine wq_aload_n (pc := 15) dX3_fewestStates_15 rfl rfl ?_
    refine tg38 (pc := 16) rfl dX3_fewestStates_16 ?_
    refine wq_iload_n (pc := 19) dX3_fewestStates_19 rfl rfl ?_
    refine wq_iconst (pc := 20) dX3_fewestStates_20 csti2 ?_
    refine tw_iast' (pc := 21) ok mia38 dX3_fewestStates_21 V (fun s3 V => ?_)
    refine wq_aload_n (pc := 22) dX3_fewestStates_22 rfl rfl ?_
    refine tg39 (pc := 23) rfl dX3_fewestStates_23 ?_
    refine wq_iload_n (pc := 26) dX3_fewestStates_26 rfl rfl ?_
    refine wq_iconst (pc := 27) dX3_fewestStates_27 cstim1 ?_
    refine tw_iast' (pc := 28) ok mia39 dX3_fewestStates_28 V (fun s4 V => ?_)
    refine wq_iinc (L' := [some (.ref o), some (.int x1), some (.int (x2 + (1 : Int32)))]) (pc := 29) dX3_fewestStates_29 rfl (by rw [csti1]) (Nat.le_of_ble_eq_true rfl) rfl ?_
    refine wq_goto (pc := 32) (tgt := 9) dX3_fewestStates_32 rfl ?_
    exact V
theorem vX3_tellsAll_0 {G : wq_G} {l : Launch} {o : Nat} {ad : Nat → Nat} {h : wq_H} {d : Nat} {K : Int32 → tw_S → Prop} (ok : tw_ok G o ad)  {x1 : Int32} {x2 : Int32} {x3 : Int32} {x4 : Int32} {s : tw_S} (V : tw_ld s 15 (158 : Int32) (fun y1 => (¬ x2 = y1 → tw_ld s 15 ((159 : Int32) + x2) (fun y2 => (¬ x3 = y2 → tw_ld s 15 (((163 : Int32) + ((6 : Int32) * x2)) + x3) (fun y3 => tw_ld s 15 (((187 : Int32) + ((6 : Int32) * x2)) + x3) (fun y4 => tw_ld s 38 (((6 : Int32) * x4) + y3) (fun y5 => (y5 = (2 : Int32) → tw_st s 38 (((6 : Int32) * x4) + y3) y4 (fun s6 => tw_T G l o ad h d mX3_tellsAll (tw_qi G o ad h K) 139 [some (.ref o), some (.int x1), some (.int x2), some (.int x3), none, some (.int (((6 : Int32) * x4) + y3)), none, some (.int (0 : Int32))] [] s6)) ∧ (¬ y5 = (2 : Int32) → tw_ld s 38 (((6 : Int32) * x4) + y3) (fun y7 => (¬ y7 = y4 → K (0 : Int32) s) ∧ (y7 = y4 → tw_ld s 39 (((6 : Int32) * x4) + y3) (fun y8 => tw_ci G l o ad h d mX3_tellsAll [.ref o, .int x1, .int x2, .int (x3 + (1 : Int32)), .int y8] s (fun y10 s9 => (y10 = 0 → K (0 : Int32) s9) ∧ (¬ y10 = 0 → K (1 : Int32) s9)))))))))) ∧ (x3 = y2 → tw_ci G l o ad h d mX3_tellsAll [.ref o, .int x1, .int (x2 + (1 : Int32)), .int (0 : Int32), .int (0 : Int32)] s (fun y12 s11 => (y12 = 0 ∨ y12 = 1) ∧ K y12 s11)))) ∧ (x2 = y1 → K (1 : Int32) s))) : tw_T G l o ad h d mX3_tellsAll (tw_qi G o ad h K) 0 [some (.ref o), some (.int x1), some (.int x2), some (.int x3), some (.int x4), none, none, none] [] s := by
  refine wq_iload_n (pc := 0) dX3_tellsAll_0 rfl rfl ?_
  refine wq_aload_n (pc := 1) dX3_tellsAll_1 rfl rfl ?_
  refine tg15 (pc := 2) rfl dX3_tellsAll_2 ?_
  refine wq_sipush (pc := 5) dX3_tellsAll_5 csts158 ?_
  refine tw_iald' (pc := 8) ok mia15 dX3_tellsAll_8 V (fun y1 V => ?_)
  refine wq_icmp_ne (pc := 9) (tgt := 14) dX3_tellsAll_9 rfl (fun c => ?_) (fun c => ?_)
  · have V := V.1 c
    refine wq_iload_n (pc := 14) dX3_tellsAll_14 rfl rfl ?_
    refine wq_aload_n (pc := 15) dX3_tellsAll_15 rfl rfl ?_
    refine tg15 (pc := 16) rfl dX3_tellsAll_16 ?_
    refine wq_sipush (pc := 19) dX3_tellsAll_19 csts159 ?_
    refine wq_iload_n (pc := 22) dX3_tellsAll_22 rfl rfl ?_
    refine wq_iadd (pc := 23) dX3_tellsAll_23 ?_
    refine tw_iald' (pc := 24) ok mia15 dX3_tellsAll_24 V (fun y2 V => ?_)
    refine wq_icmp_ne (pc := 25) (tgt := 39) dX3_tellsAll_25 rfl (fun c => ?_) (fun c => ?_)
    · have V := V.1 c
      refine wq_bipush (pc := 39) dX3_tellsAll_39 cstb6 ?_
      refine wq_iload (pc := 41) dX3_tellsAll_41 rfl ?_
      refine wq_imul (pc := 43) dX3_tellsAll_43 ?_
      refine wq_aload_n (pc := 44) dX3_tellsAll_44 rfl rfl ?_
      refine tg15 (pc := 45) rfl dX3_tellsAll_45 ?_
      refine wq_sipush (pc := 48) dX3_tellsAll_48 csts163 ?_
      refine wq_bipush (pc := 51) dX3_tellsAll_51 cstb6 ?_
      refine wq_iload_n (pc := 53) dX3_tellsAll_53 rfl rfl ?_
      refine wq_imul (pc := 54) dX3_tellsAll_54 ?_
      refine wq_iadd (pc := 55) dX3_tellsAll_55 ?_
      refine wq_iload_n (pc := 56) dX3_tellsAll_56 rfl rfl ?_
      refine wq_iadd (pc := 57) dX3_tellsAll_57 ?_
      refine tw_iald' (pc := 58) ok mia15 dX3_tellsAll_58 V (fun y3 V => ?_)
      refine wq_iadd (pc := 59) dX3_tellsAll_59 ?_
      refine wq_istore (L' := [some (.ref o), some (.int x1), some (.int x2), some (.int x3), some (.int x4), some (.int (((6 : Int32) * x4) + y3)), none, none]) (pc := 60) dX3_tellsAll_60 (Nat.le_of_ble_eq_true rfl) rfl ?_
      refine wq_aload_n (pc := 62) dX3_tellsAll_62 rfl rfl ?_
      refine tg15 (pc := 63) rfl dX3_tellsAll_63 ?_
      refine wq_sipush (pc := 66) dX3_tellsAll_66 csts187 ?_
      refine wq_bipush (pc := 69) dX3_tellsAll_69 cstb6 ?_
      refine wq_iload_n (pc := 71) dX3_tellsAll_71 rfl rfl ?_
      refine wq_imul (pc := 72) dX3_tellsAll_72 ?_
      refine wq_iadd (pc := 73) dX3_tellsAll_73 ?_
      refine wq_iload_n (pc := 74) dX3_tellsAll_74 rfl rfl ?_
      refine wq_iadd (pc := 75) dX3_tellsAll_75 ?_
      refine tw_iald' (pc := 76) ok mia15 dX3_tellsAll_76 V (fun y4 V => ?_)
      refine wq_istore (L' := [some (.ref o), some (.int x1), some (.int x2), some (.int x3), some (.int x4), some (.int (((6 : Int32) * x4) + y3)), some (.int y4), none]) (pc := 77) dX3_tellsAll_77 (Nat.le_of_ble_eq_true rfl) rfl ?_
      refine wq_aload_n (pc := 79) dX3_tellsAll_79 rfl rfl ?_
      refine tg38 (pc := 80) rfl dX3_tellsAll_80 ?_
      refine wq_iload (pc := 83) dX3_tellsAll_83 rfl ?_
      refine tw_iald' (pc := 85) ok mia38 dX3_tellsAll_85 V (fun y5 V => ?_)
      refine wq_iconst (pc := 86) dX3_tellsAll_86 csti2 ?_
      refine wq_icmp_eq (pc := 87) (tgt := 127) dX3_tellsAll_87 rfl (fun c => ?_) (fun c => ?_)
      · have V := V.1 c
        refine wq_aload_n (pc := 127) dX3_tellsAll_127 rfl rfl ?_
        refine tg38 (pc := 128) rfl dX3_tellsAll_128 ?_
        refine wq_iload (pc := 131) dX3_tellsAll_131 rfl ?_
        refine wq_iload (pc := 133) dX3_tellsAll_133 rfl ?_
        refine tw_iast' (pc := 135) ok mia38 dX3_tellsAll_135 V (fun s6 V => ?_)
        refine wq_iconst (pc := 136) dX3_tellsAll_136 csti0 ?_
        refine wq_istore (L' := [some (.ref o), some (.int x1), some (.int x2), some (.int x3), some (.int x4), some (.int (((6 : Int32) * x4) + y3)), some (.int y4), some (.int (0 : Int32))]) (pc := 137) dX3_tellsAll_137 (Nat.le_of_ble_eq_true rfl) rfl ?_
        exact wq_T.less V ⟨rfl, ⟨rfl, ⟨rfl, ⟨rfl, ⟨rfl, ⟨rfl, trivial⟩⟩⟩⟩⟩⟩
      · have V := V.2 c
        refine wq_aload_n (pc := 90) dX3_tellsAll_90 rfl rfl ?_
        refine tg38 (pc := 91) rfl dX3_tellsAll_91 ?_
        refine wq_iload (pc := 94) dX3_tellsAll_94 rfl ?_
        refine tw_iald' (pc := 96) ok mia38 dX3_tellsAll_96 V (fun y7 V => ?_)
        refine wq_iload (pc := 97) dX3_tellsAll_97 rfl ?_
        refine wq_icmp_ne (pc := 99) (tgt := 125) dX3_tellsAll_99 rfl (fun c => ?_) (fun c => ?_)
        · have V := V.1 c
          refine wq_iconst (pc := 125) dX3_tellsAll_125 csti0 ?_
          refine wq_zret (pc := 126) dX3_tellsAll_126 rfl tw_nb0 ⟨_, _, rfl, rfl, V⟩
        · have V := V.2 c
          refine wq_aload_n (pc := 102) dX3_tellsAll_102 rfl rfl ?_
          refine wq_iload_n (pc := 103) dX3_tellsAll_103 rfl rfl ?_
          refine wq_iload_n (pc := 104) dX3_tellsAll_104 rfl rfl ?_
          refine wq_iload_n (pc := 105) dX3_tellsAll_105 rfl rfl ?_
          refine wq_iconst (pc := 106) dX3_tellsAll_106 csti1 ?_
          refine wq_iadd (pc := 107) dX3_tellsAll_107 ?_
          refine wq_aload_n (pc := 108) dX3_tellsAll_108 rfl rfl ?_
          refine tg39 (pc := 109) rfl dX3_tellsAll_109 ?_
          refine wq_iload (pc := 112) dX3_tellsAll_112 rfl ?_
          refine tw_iald' (pc := 114) ok mia39 dX3_tellsAll_114 V (fun y8 V => ?_)
          refine tcq2260 (pc := 115) (As := [.int x1, .int x2, .int (x3 + (1 : Int32)), .int y8]) (st := []) rfl dX3_tellsAll_115 rfl (Nat.le_of_ble_eq_true rfl) V (tw_ki (fun y10 s9 V => ?_))
          refine wq_if_eq (pc := 118) (tgt := 125) dX3_tellsAll_118 rfl (fun c => ?_) (fun c => ?_)
          · have V := V.1 c
            refine wq_iconst (pc := 125) dX3_tellsAll_125 csti0 ?_
            refine wq_zret (pc := 126) dX3_tellsAll_126 rfl tw_nb0 ⟨_, _, rfl, rfl, V⟩
          · have V := V.2 c
            refine wq_iconst (pc := 121) dX3_tellsAll_121 csti1 ?_
            refine wq_goto (pc := 122) (tgt := 126) dX3_tellsAll_122 rfl ?_
            refine wq_zret (pc := 126) dX3_tellsAll_126 rfl tw_nb1 ⟨_, _, rfl, rfl, V⟩
    · have V := V.2 c
      refine wq_aload_n (pc := 28) dX3_tellsAll_28 rfl rfl ?_
      refine wq_iload_n (pc := 29) dX3_tellsAll_29 rfl rfl ?_
      refine wq_iload_n (pc := 30) dX3_tellsAll_30 rfl rfl ?_
      refine wq_iconst (pc := 31) dX3_tellsAll_31 csti1 ?_
      refine wq_iadd (pc := 32) dX3_tellsAll_32 ?_
      refine wq_iconst (pc := 33) dX3_tellsAll_33 csti0 ?_
      refine wq_iconst (pc := 34) dX3_tellsAll_34 csti0 ?_
      refine tcq2260 (pc := 35) (As := [.int x1, .int (x2 + (1 : Int32)), .int (0 : Int32), .int (0 : Int32)]) (st := []) rfl dX3_tellsAll_35 rfl (Nat.le_of_ble_eq_true rfl) V (tw_ki (fun y12 s11 V => ?_))
      refine wq_zret (pc := 38) dX3_tellsAll_38 rfl (tw_z V.1).1 ⟨_, _, rfl, rfl, V.2⟩
  · have V := V.2 c
    refine wq_iconst (pc := 12) dX3_tellsAll_12 csti1 ?_
    refine wq_zret (pc := 13) dX3_tellsAll_13 rfl tw_nb1 ⟨_, _, rfl, rfl, V⟩
theorem vX3_tellsAll_139 {G : wq_G} {l : Launch} {o : Nat} {ad : Nat → Nat} {h : wq_H} {d : Nat} {K : Int32 → tw_S → Prop} (ok : tw_ok G o ad)  {x1 : Int32} {x2 : Int32} {x3 : Int32} {x5 : Int32} {x7 : Int32} {s : tw_S} (V : (x1 ≤ x7 → tw_st s 38 x5 (2 : Int32) (fun s1 => tw_st s1 39 x5 (-1 : Int32) (fun s2 => K (0 : Int32) s2))) ∧ (¬ x1 ≤ x7 → tw_st s 39 x5 x7 (fun s3 => tw_ci G l o ad h d mX3_tellsAll [.ref o, .int x1, .int x2, .int (x3 + (1 : Int32)), .int x7] s3 (fun y5 s4 => (y5 = 0 → tw_T G l o ad h d mX3_tellsAll (tw_qi G o ad h K) 139 [some (.ref o), some (.int x1), some (.int x2), some (.int x3), none, some (.int x5), none, some (.int (x7 + (1 : Int32)))] [] s4) ∧ (¬ y5 = 0 → K (1 : Int32) s4))))) : tw_T G l o ad h d mX3_tellsAll (tw_qi G o ad h K) 139 [some (.ref o), some (.int x1), some (.int x2), some (.int x3), none, some (.int x5), none, some (.int x7)] [] s := by
  refine wq_iload (pc := 139) dX3_tellsAll_139 rfl ?_
  refine wq_iload_n (pc := 141) dX3_tellsAll_141 rfl rfl ?_
  refine wq_icmp_ge (pc := 142) (tgt := 176) dX3_tellsAll_142 rfl (fun c => ?_) (fun c => ?_)
  · have V := V.1 c
    refine wq_aload_n (pc := 176) dX3_tellsAll_176 rfl rfl ?_
    refine tg38 (pc := 177) rfl dX3_tellsAll_177 ?_
    refine wq_iload (pc := 180) dX3_tellsAll_180 rfl ?_
    refine wq_iconst (pc := 182) dX3_tellsAll_182 csti2 ?_
    refine tw_iast' (pc := 183) ok mia38 dX3_tellsAll_183 V (fun s1 V => ?_)
    refine wq_aload_n (pc := 184) dX3_tellsAll_184 rfl rfl ?_
    refine tg39 (pc := 185) rfl dX3_tellsAll_185 ?_
    refine wq_iload (pc := 188) dX3_tellsAll_188 rfl ?_
    refine wq_iconst (pc := 190) dX3_tellsAll_190 cstim1 ?_
    refine tw_iast' (pc := 191) ok mia39 dX3_tellsAll_191 V (fun s2 V => ?_)
    refine wq_iconst (pc := 192) dX3_tellsAll_192 csti0 ?_
    refine wq_zret (pc := 193) dX3_tellsAll_193 rfl tw_nb0 ⟨_, _, rfl, rfl, V⟩
  · have V := V.2 c
    refine wq_aload_n (pc := 145) dX3_tellsAll_145 rfl rfl ?_
    refine tg39 (pc := 146) rfl dX3_tellsAll_146 ?_
    refine wq_iload (pc := 149) dX3_tellsAll_149 rfl ?_
    refine wq_iload (pc := 151) dX3_tellsAll_151 rfl ?_
    refine tw_iast' (pc := 153) ok mia39 dX3_tellsAll_153 V (fun s3 V => ?_)
    refine wq_aload_n (pc := 154) dX3_tellsAll_154 rfl rfl ?_
    refine wq_iload_n (pc := 155) dX3_tellsAll_155 rfl rfl ?_
    refine wq_iload_n (pc := 156) dX3_tellsAll_156 rfl rfl ?_
    refine wq_iload_n (pc := 157) dX3_tellsAll_157 rfl rfl ?_
    refine wq_iconst (pc := 158) dX3_tellsAll_158 csti1 ?_
    refine wq_iadd (pc := 159) dX3_tellsAll_159 ?_
    refine wq_iload (pc := 160) dX3_tellsAll_160 rfl ?_
    refine tcq2260 (pc := 162) (As := [.int x1, .int x2, .int (x3 + (1 : Int32)), .int x7]) (st := []) rfl dX3_tellsAll_162 rfl (Nat.le_of_ble_eq_true rfl) V (tw_ki (fun y5 s4 V => ?_))
    refine wq_if_eq (pc := 165) (tgt := 170) dX3_tellsAll_165 rfl (fun c => ?_) (fun c => ?_)
    · have V := V.1 c
      refine wq_iinc (L' := [some (.ref o), some (.int x1), some (.int x2), some (.int x3), none, some (.int x5), none, some (.int (x7 + (1 : Int32)))]) (pc := 170) dX3_tellsAll_170 rfl (by rw [csti1]) (Nat.le_of_ble_eq_true rfl) rfl ?_
      refine wq_goto (pc := 173) (tgt := 139) dX3_tellsAll_173 rfl ?_
      exact V
    · have V := V.2 c
      refine wq_iconst (pc := 168) dX3_tellsAll_168 csti1 ?_
      refine wq_zret (pc := 169) dX3_tellsAll_169 rfl tw_nb1 ⟨_, _, rfl, rfl, V⟩
theorem vX3_machine_0 {G : wq_G} {l : Launch} {o : Nat} {ad : Nat → Nat} {h : wq_H} {d : Nat} {K : Int32 → tw_S → Prop} (ok : tw_ok G o ad)  {x1 : Int32} {x2 : Int32} {x3 : Int32} {s : tw_S} (V : tw_cv G l o ad h d mX3_good [.ref o] s (fun s1 => tw_ci G l o ad h d mX3_isLook [.ref o, .int x2] s1 (fun y3 s2 => (y3 = 0 → tw_ci G l o ad h d mX3_no [.ref o, .int (1 : Int32)] s2 (fun y5 s4 => K y5 s4)) ∧ (¬ y3 = 0 → tw_ci G l o ad h d mX3_within [.int x1, .int (0 : Int32), .int (2 : Int32)] s2 (fun y7 s6 => (¬ y7 = 0 → tw_ci G l o ad h d mX3_fewestStates [.ref o] s6 (fun y9 s8 => (¬ y9 = (-2 : Int32) → tw_ld s8 38 (((6 : Int32) * x1) + x2) (fun y10 => (¬ y10 = (2 : Int32) → (x3 = 0 → tw_ld s8 38 (((6 : Int32) * x1) + x2) (fun y11 => K y11 s8)) ∧ (¬ x3 = 0 → tw_ld s8 39 (((6 : Int32) * x1) + x2) (fun y12 => K y12 s8))) ∧ (y10 = (2 : Int32) → K (-2 : Int32) s8))) ∧ (y9 = (-2 : Int32) → tw_ci G l o ad h d mX3_no [.ref o, .int (6 : Int32)] s8 (fun y14 s13 => K y14 s13)))) ∧ (y7 = 0 → tw_ci G l o ad h d mX3_no [.ref o, .int (1 : Int32)] s6 (fun y16 s15 => K y16 s15))))))) : tw_T G l o ad h d mX3_machine (tw_qi G o ad h K) 0 [some (.ref o), some (.int x1), some (.int x2), some (.int x3), none] [] s := by
  refine wq_aload_n (pc := 0) dX3_machine_0 rfl rfl ?_
  refine tcq1836 (pc := 1) (As := []) (st := []) rfl dX3_machine_1 rfl (Nat.le_of_ble_eq_true rfl) V (tw_kv (fun s1 V => ?_))
  refine wq_aload_n (pc := 4) dX3_machine_4 rfl rfl ?_
  refine wq_iload_n (pc := 5) dX3_machine_5 rfl rfl ?_
  refine tcq2032 (pc := 6) (As := [.int x2]) (st := []) rfl dX3_machine_6 rfl (Nat.le_of_ble_eq_true rfl) V (tw_ki (fun y3 s2 V => ?_))
  refine wq_if_eq (pc := 9) (tgt := 21) dX3_machine_9 rfl (fun c => ?_) (fun c => ?_)
  · have V := V.1 c
    refine wq_aload_n (pc := 21) dX3_machine_21 rfl rfl ?_
    refine wq_iconst (pc := 22) dX3_machine_22 csti1 ?_
    refine tcq1843 (pc := 23) (As := [.int (1 : Int32)]) (st := []) rfl dX3_machine_23 rfl (Nat.le_of_ble_eq_true rfl) V (tw_ki (fun y5 s4 V => ?_))
    refine wq_iret (pc := 26) dX3_machine_26 rfl ⟨_, _, rfl, rfl, V⟩
  · have V := V.2 c
    refine wq_iload_n (pc := 12) dX3_machine_12 rfl rfl ?_
    refine wq_iconst (pc := 13) dX3_machine_13 csti0 ?_
    refine wq_iconst (pc := 14) dX3_machine_14 csti2 ?_
    refine tcq1840 (pc := 15) (As := [.int x1, .int (0 : Int32), .int (2 : Int32)]) (st := []) rfl dX3_machine_15 rfl (Nat.le_of_ble_eq_true rfl) V (tw_ki (fun y7 s6 V => ?_))
    refine wq_if_ne (pc := 18) (tgt := 27) dX3_machine_18 rfl (fun c => ?_) (fun c => ?_)
    · have V := V.1 c
      refine wq_aload_n (pc := 27) dX3_machine_27 rfl rfl ?_
      refine tcq2256 (pc := 28) (As := []) (st := []) rfl dX3_machine_28 rfl (Nat.le_of_ble_eq_true rfl) V (tw_ki (fun y9 s8 V => ?_))
      refine wq_bipush (pc := 31) dX3_machine_31 cstbm2 ?_
      refine wq_icmp_ne (pc := 33) (tgt := 43) dX3_machine_33 rfl (fun c => ?_) (fun c => ?_)
      · have V := V.1 c
        refine wq_bipush (pc := 43) dX3_machine_43 cstb6 ?_
        refine wq_iload_n (pc := 45) dX3_machine_45 rfl rfl ?_
        refine wq_imul (pc := 46) dX3_machine_46 ?_
        refine wq_iload_n (pc := 47) dX3_machine_47 rfl rfl ?_
        refine wq_iadd (pc := 48) dX3_machine_48 ?_
        refine wq_istore (L' := [some (.ref o), some (.int x1), some (.int x2), some (.int x3), some (.int (((6 : Int32) * x1) + x2))]) (pc := 49) dX3_machine_49 (Nat.le_of_ble_eq_true rfl) rfl ?_
        refine wq_aload_n (pc := 51) dX3_machine_51 rfl rfl ?_
        refine tg38 (pc := 52) rfl dX3_machine_52 ?_
        refine wq_iload (pc := 55) dX3_machine_55 rfl ?_
        refine tw_iald' (pc := 57) ok mia38 dX3_machine_57 V (fun y10 V => ?_)
        refine wq_iconst (pc := 58) dX3_machine_58 csti2 ?_
        refine wq_icmp_ne (pc := 59) (tgt := 67) dX3_machine_59 rfl (fun c => ?_) (fun c => ?_)
        · have V := V.1 c
          refine wq_iload_n (pc := 67) dX3_machine_67 rfl rfl ?_
          refine wq_if_eq (pc := 68) (tgt := 81) dX3_machine_68 rfl (fun c => ?_) (fun c => ?_)
          · have V := V.1 c
            refine wq_aload_n (pc := 81) dX3_machine_81 rfl rfl ?_
            refine tg38 (pc := 82) rfl dX3_machine_82 ?_
            refine wq_iload (pc := 85) dX3_machine_85 rfl ?_
            refine tw_iald' (pc := 87) ok mia38 dX3_machine_87 V (fun y11 V => ?_)
            refine wq_iret (pc := 88) dX3_machine_88 rfl ⟨_, _, rfl, rfl, V⟩
          · have V := V.2 c
            refine wq_aload_n (pc := 71) dX3_machine_71 rfl rfl ?_
            refine tg39 (pc := 72) rfl dX3_machine_72 ?_
            refine wq_iload (pc := 75) dX3_machine_75 rfl ?_
            refine tw_iald' (pc := 77) ok mia39 dX3_machine_77 V (fun y12 V => ?_)
            refine wq_goto (pc := 78) (tgt := 88) dX3_machine_78 rfl ?_
            refine wq_iret (pc := 88) dX3_machine_88 rfl ⟨_, _, rfl, rfl, V⟩
        · have V := V.2 c
          refine wq_bipush (pc := 62) dX3_machine_62 cstbm2 ?_
          refine wq_goto (pc := 64) (tgt := 88) dX3_machine_64 rfl ?_
          refine wq_iret (pc := 88) dX3_machine_88 rfl ⟨_, _, rfl, rfl, V⟩
      · have V := V.2 c
        refine wq_aload_n (pc := 36) dX3_machine_36 rfl rfl ?_
        refine wq_bipush (pc := 37) dX3_machine_37 cstb6 ?_
        refine tcq1843 (pc := 39) (As := [.int (6 : Int32)]) (st := []) rfl dX3_machine_39 rfl (Nat.le_of_ble_eq_true rfl) V (tw_ki (fun y14 s13 V => ?_))
        refine wq_iret (pc := 42) dX3_machine_42 rfl ⟨_, _, rfl, rfl, V⟩
    · have V := V.2 c
      refine wq_aload_n (pc := 21) dX3_machine_21 rfl rfl ?_
      refine wq_iconst (pc := 22) dX3_machine_22 csti1 ?_
      refine tcq1843 (pc := 23) (As := [.int (1 : Int32)]) (st := []) rfl dX3_machine_23 rfl (Nat.le_of_ble_eq_true rfl) V (tw_ki (fun y16 s15 V => ?_))
      refine wq_iret (pc := 26) dX3_machine_26 rfl ⟨_, _, rfl, rfl, V⟩
theorem vX3_flip_0 {G : wq_G} {l : Launch} {o : Nat} {ad : Nat → Nat} {h : wq_H} {d : Nat} {K : Int32 → tw_S → Prop} (ok : tw_ok G o ad)  {x1 : Int32} {s : tw_S} (V : tw_cv G l o ad h d mX3_good [.ref o] s (fun s1 => tw_ci G l o ad h d mX3_isLook [.ref o, .int x1] s1 (fun y3 s2 => (¬ y3 = 0 → tw_cv G l o ad h d mX3_copy [.ref (ad 15), .int (0 : Int32), .ref (ad 18), .int (0 : Int32), .int (49 : Int32)] s2 (fun s4 => tw_T G l o ad h d mX3_flip (tw_qi G o ad h K) 35 [some (.ref o), some (.int x1), some (.int (0 : Int32)), none, none, none, none, none, none] [] s4)) ∧ (y3 = 0 → tw_ci G l o ad h d mX3_isNot [.ref o, .int (1 : Int32)] s2 (fun y6 s5 => (y6 = 0 ∨ y6 = 1) ∧ K y6 s5))))) : tw_T G l o ad h d mX3_flip (tw_qi G o ad h K) 0 [some (.ref o), some (.int x1), none, none, none, none, none, none, none] [] s := by
  refine wq_aload_n (pc := 0) dX3_flip_0 rfl rfl ?_
  refine tcq1836 (pc := 1) (As := []) (st := []) rfl dX3_flip_1 rfl (Nat.le_of_ble_eq_true rfl) V (tw_kv (fun s1 V => ?_))
  refine wq_aload_n (pc := 4) dX3_flip_4 rfl rfl ?_
  refine wq_iload_n (pc := 5) dX3_flip_5 rfl rfl ?_
  refine tcq2032 (pc := 6) (As := [.int x1]) (st := []) rfl dX3_flip_6 rfl (Nat.le_of_ble_eq_true rfl) V (tw_ki (fun y3 s2 V => ?_))
  refine wq_if_ne (pc := 9) (tgt := 18) dX3_flip_9 rfl (fun c => ?_) (fun c => ?_)
  · have V := V.1 c
    refine wq_aload_n (pc := 18) dX3_flip_18 rfl rfl ?_
    refine tg15 (pc := 19) rfl dX3_flip_19 ?_
    refine wq_iconst (pc := 22) dX3_flip_22 csti0 ?_
    refine wq_aload_n (pc := 23) dX3_flip_23 rfl rfl ?_
    refine tg18 (pc := 24) rfl dX3_flip_24 ?_
    refine wq_iconst (pc := 27) dX3_flip_27 csti0 ?_
    refine wq_bipush (pc := 28) dX3_flip_28 cstb49 ?_
    refine tcq2272 (pc := 30) (As := [.ref (ad 15), .int (0 : Int32), .ref (ad 18), .int (0 : Int32), .int (49 : Int32)]) (st := []) rfl dX3_flip_30 rfl (Nat.le_of_ble_eq_true rfl) V (tw_kv (fun s4 V => ?_))
    refine wq_iconst (pc := 33) dX3_flip_33 csti0 ?_
    refine wq_istore_n (L' := [some (.ref o), some (.int x1), some (.int (0 : Int32)), none, none, none, none, none, none]) (pc := 34) dX3_flip_34 rfl (Nat.le_of_ble_eq_true rfl) rfl ?_
    exact V
  · have V := V.2 c
    refine wq_aload_n (pc := 12) dX3_flip_12 rfl rfl ?_
    refine wq_iconst (pc := 13) dX3_flip_13 csti1 ?_
    refine tcq2131 (pc := 14) (As := [.int (1 : Int32)]) (st := []) rfl dX3_flip_14 rfl (Nat.le_of_ble_eq_true rfl) V (tw_ki (fun y6 s5 V => ?_))
    refine wq_zret (pc := 17) dX3_flip_17 rfl (tw_z V.1).1 ⟨_, _, rfl, rfl, V.2⟩
theorem vX3_flip_35 {G : wq_G} {l : Launch} {o : Nat} {ad : Nat → Nat} {h : wq_H} {d : Nat} {K : Int32 → tw_S → Prop} (ok : tw_ok G o ad)  {x1 : Int32} {x2 : Int32} {s : tw_S} (V : tw_ld s 15 (0 : Int32) (fun y1 => (y1 ≤ x2 → tw_ci G l o ad h d mX3_did [.ref o, .int (0 : Int32), .int x1, .int (-2 : Int32), .int (-2 : Int32), .int (-2 : Int32)] s (fun y3 s2 => (y3 = 0 ∨ y3 = 1) ∧ K y3 s2)) ∧ (¬ y1 ≤ x2 → tw_ld s 15 ((9 : Int32) + x2) (fun y4 => (¬ y4 = (-2 : Int32) → tw_ld s 15 ((1 : Int32) + x2) (fun y5 => (¬ y5 = x1 → tw_ld s 15 ((9 : Int32) + x2) (fun y6 => (¬ y6 = x1 → (¬ (0 : Int32) = 0 → tw_T G l o ad h d mX3_flip (tw_qi G o ad h K) 124 [some (.ref o), some (.int x1), some (.int x2), some (.int (0 : Int32)), some (.int (0 : Int32)), none, none, none, none] [] s) ∧ ((0 : Int32) = 0 → tw_T G l o ad h d mX3_flip (tw_qi G o ad h K) 35 [some (.ref o), some (.int x1), some (.int (x2 + (1 : Int32))), none, none, none, none, none, none] [] s)) ∧ (y6 = x1 → (¬ (1 : Int32) = 0 → tw_T G l o ad h d mX3_flip (tw_qi G o ad h K) 124 [some (.ref o), some (.int x1), some (.int x2), some (.int (1 : Int32)), some (.int (0 : Int32)), none, none, none, none] [] s) ∧ ((1 : Int32) = 0 → tw_T G l o ad h d mX3_flip (tw_qi G o ad h K) 35 [some (.ref o), some (.int x1), some (.int (x2 + (1 : Int32))), none, none, none, none, none, none] [] s)))) ∧ (y5 = x1 → (¬ (2 : Int32) = 0 → tw_T G l o ad h d mX3_flip (tw_qi G o ad h K) 124 [some (.ref o), some (.int x1), some (.int x2), some (.int (2 : Int32)), some (.int (0 : Int32)), none, none, none, none] [] s) ∧ ((2 : Int32) = 0 → tw_T G l o ad h d mX3_flip (tw_qi G o ad h K) 35 [some (.ref o), some (.int x1), some (.int (x2 + (1 : Int32))), none, none, none, none, none, none] [] s)))) ∧ (y4 = (-2 : Int32) → tw_ld s 15 ((1 : Int32) + x2) (fun y7 => (¬ y7 = x1 → (¬ (0 : Int32) = 0 → tw_T G l o ad h d mX3_flip (tw_qi G o ad h K) 124 [some (.ref o), some (.int x1), some (.int x2), some (.int (0 : Int32)), some (.int (0 : Int32)), none, none, none, none] [] s) ∧ ((0 : Int32) = 0 → tw_T G l o ad h d mX3_flip (tw_qi G o ad h K) 35 [some (.ref o), some (.int x1), some (.int (x2 + (1 : Int32))), none, none, none, none, none, none] [] s)) ∧ (y7 = x1 → (¬ (1 : Int32) = 0 → tw_T G l o ad h d mX3_flip (tw_qi G o ad h K) 124 [some (.ref o), some (.int x1), some (.int x2), some (.int (1 : Int32)), some (.int (0 : Int32)), none, none, none, none] [] s) ∧ ((1 : Int32) = 0 → tw_T G l o ad h d mX3_flip (tw_qi G o ad h K) 35 [some (.ref o), some (.int x1), some (.int (x2 + (1 : Int32))), none, none, none, none, none, none] [] s)))))))) : tw_T G l o ad h d mX3_flip (tw_qi G o ad h K) 35 [some (.ref o), some (.int x1), some (.int x2), none, none, none, none, none, none] [] s := by
  refine wq_iload_n (pc := 35) dX3_flip_35 rfl rfl ?_
  refine wq_aload_n (pc := 36) dX3_flip_36 rfl rfl ?_
  refine tg15 (pc := 37) rfl dX3_flip_37 ?_
  refine wq_iconst (pc := 40) dX3_flip_40 csti0 ?_
  refine tw_iald' (pc := 41) ok mia15 dX3_flip_41 V (fun y1 V => ?_)
  refine wq_icmp_ge (pc := 42) (tgt := 257) dX3_flip_42 rfl (fun c => ?_) (fun c => ?_)
  · have V := V.1 c
    refine wq_aload_n (pc := 257) dX3_flip_257 rfl rfl ?_
    refine wq_iconst (pc := 258) dX3_flip_258 csti0 ?_
    refine wq_iload_n (pc := 259) dX3_flip_259 rfl rfl ?_
    refine wq_bipush (pc := 260) dX3_flip_260 cstbm2 ?_
    refine wq_bipush (pc := 262) dX3_flip_262 cstbm2 ?_
    refine wq_bipush (pc := 264) dX3_flip_264 cstbm2 ?_
    refine tcq2275 (pc := 266) (As := [.int (0 : Int32), .int x1, .int (-2 : Int32), .int (-2 : Int32), .int (-2 : Int32)]) (st := []) rfl dX3_flip_266 rfl (Nat.le_of_ble_eq_true rfl) V (tw_ki (fun y3 s2 V => ?_))
    refine wq_zret (pc := 269) dX3_flip_269 rfl (tw_z V.1).1 ⟨_, _, rfl, rfl, V.2⟩
  · have V := V.2 c
    refine wq_aload_n (pc := 45) dX3_flip_45 rfl rfl ?_
    refine tg15 (pc := 46) rfl dX3_flip_46 ?_
    refine wq_bipush (pc := 49) dX3_flip_49 cstb9 ?_
    refine wq_iload_n (pc := 51) dX3_flip_51 rfl rfl ?_
    refine wq_iadd (pc := 52) dX3_flip_52 ?_
    refine tw_iald' (pc := 53) ok mia15 dX3_flip_53 V (fun y4 V => ?_)
    refine wq_bipush (pc := 54) dX3_flip_54 cstbm2 ?_
    refine wq_icmp_ne (pc := 56) (tgt := 79) dX3_flip_56 rfl (fun c => ?_) (fun c => ?_)
    · have V := V.1 c
      refine wq_aload_n (pc := 79) dX3_flip_79 rfl rfl ?_
      refine tg15 (pc := 80) rfl dX3_flip_80 ?_
      refine wq_iconst (pc := 83) dX3_flip_83 csti1 ?_
      refine wq_iload_n (pc := 84) dX3_flip_84 rfl rfl ?_
      refine wq_iadd (pc := 85) dX3_flip_85 ?_
      refine tw_iald' (pc := 86) ok mia15 dX3_flip_86 V (fun y5 V => ?_)
      refine wq_iload_n (pc := 87) dX3_flip_87 rfl rfl ?_
      refine wq_icmp_ne (pc := 88) (tgt := 95) dX3_flip_88 rfl (fun c => ?_) (fun c => ?_)
      · have V := V.1 c
        refine wq_aload_n (pc := 95) dX3_flip_95 rfl rfl ?_
        refine tg15 (pc := 96) rfl dX3_flip_96 ?_
        refine wq_bipush (pc := 99) dX3_flip_99 cstb9 ?_
        refine wq_iload_n (pc := 101) dX3_flip_101 rfl rfl ?_
        refine wq_iadd (pc := 102) dX3_flip_102 ?_
        refine tw_iald' (pc := 103) ok mia15 dX3_flip_103 V (fun y6 V => ?_)
        refine wq_iload_n (pc := 104) dX3_flip_104 rfl rfl ?_
        refine wq_icmp_ne (pc := 105) (tgt := 112) dX3_flip_105 rfl (fun c => ?_) (fun c => ?_)
        · have V := V.1 c
          refine wq_iconst (pc := 112) dX3_flip_112 csti0 ?_
          refine wq_istore_n (L' := [some (.ref o), some (.int x1), some (.int x2), some (.int (0 : Int32)), none, none, none, none, none]) (pc := 113) dX3_flip_113 rfl (Nat.le_of_ble_eq_true rfl) rfl ?_
          refine wq_iload_n (pc := 114) dX3_flip_114 rfl rfl ?_
          refine wq_if_ne (pc := 115) (tgt := 121) dX3_flip_115 rfl (fun c => ?_) (fun c => ?_)
          · have V := V.1 c
            refine wq_iconst (pc := 121) dX3_flip_121 csti0 ?_
            refine wq_istore (L' := [some (.ref o), some (.int x1), some (.int x2), some (.int (0 : Int32)), some (.int (0 : Int32)), none, none, none, none]) (pc := 122) dX3_flip_122 (Nat.le_of_ble_eq_true rfl) rfl ?_
            exact V
          · have V := V.2 c
            refine wq_goto (pc := 118) (tgt := 251) dX3_flip_118 rfl ?_
            refine wq_iinc (L' := [some (.ref o), some (.int x1), some (.int (x2 + (1 : Int32))), some (.int (0 : Int32)), none, none, none, none, none]) (pc := 251) dX3_flip_251 rfl (by rw [csti1]) (Nat.le_of_ble_eq_true rfl) rfl ?_
            refine wq_goto (pc := 254) (tgt := 35) dX3_flip_254 rfl ?_
            exact wq_T.less V ⟨rfl, ⟨rfl, ⟨rfl, trivial⟩⟩⟩
        · have V := V.2 c
          refine wq_iconst (pc := 108) dX3_flip_108 csti1 ?_
          refine wq_goto (pc := 109) (tgt := 113) dX3_flip_109 rfl ?_
          refine wq_istore_n (L' := [some (.ref o), some (.int x1), some (.int x2), some (.int (1 : Int32)), none, none, none, none, none]) (pc := 113) dX3_flip_113 rfl (Nat.le_of_ble_eq_true rfl) rfl ?_
          refine wq_iload_n (pc := 114) dX3_flip_114 rfl rfl ?_
          refine wq_if_ne (pc := 115) (tgt := 121) dX3_flip_115 rfl (fun c => ?_) (fun c => ?_)
          · have V := V.1 c
            refine wq_iconst (pc := 121) dX3_flip_121 csti0 ?_
            refine wq_istore (L' := [some (.ref o), some (.int x1), some (.int x2), some (.int (1 : Int32)), some (.int (0 : Int32)), none, none, none, none]) (pc := 122) dX3_flip_122 (Nat.le_of_ble_eq_true rfl) rfl ?_
            exact V
          · have V := V.2 c
            refine wq_goto (pc := 118) (tgt := 251) dX3_flip_118 rfl ?_
            refine wq_iinc (L' := [some (.ref o), some (.int x1), some (.int (x2 + (1 : Int32))), some (.int (1 : Int32)), none, none, none, none, none]) (pc := 251) dX3_flip_251 rfl (by rw [csti1]) (Nat.le_of_ble_eq_true rfl) rfl ?_
            refine wq_goto (pc := 254) (tgt := 35) dX3_flip_254 rfl ?_
            exact wq_T.less V ⟨rfl, ⟨rfl, ⟨rfl, trivial⟩⟩⟩
      · have V := V.2 c
        refine wq_iconst (pc := 91) dX3_flip_91 csti2 ?_
        refine wq_goto (pc := 92) (tgt := 113) dX3_flip_92 rfl ?_
        refine wq_istore_n (L' := [some (.ref o), some (.int x1), some (.int x2), some (.int (2 : Int32)), none, none, none, none, none]) (pc := 113) dX3_flip_113 rfl (Nat.le_of_ble_eq_true rfl) rfl ?_
        refine wq_iload_n (pc := 114) dX3_flip_114 rfl rfl ?_
        refine wq_if_ne (pc := 115) (tgt := 121) dX3_flip_115 rfl (fun c => ?_) (fun c => ?_)
        · have V := V.1 c
          refine wq_iconst (pc := 121) dX3_flip_121 csti0 ?_
          refine wq_istore (L' := [some (.ref o), some (.int x1), some (.int x2), some (.int (2 : Int32)), some (.int (0 : Int32)), none, none, none, none]) (pc := 122) dX3_flip_122 (Nat.le_of_ble_eq_true rfl) rfl ?_
          exact V
        · have V := V.2 c
          refine wq_goto (pc := 118) (tgt := 251) dX3_flip_118 rfl ?_
          refine wq_iinc (L' := [some (.ref o), some (.int x1), some (.int (x2 + (1 : Int32))), some (.int (2 : Int32)), none, none, none, none, none]) (pc := 251) dX3_flip_251 rfl (by rw [csti1]) (Nat.le_of_ble_eq_true rfl) rfl ?_
          refine wq_goto (pc := 254) (tgt := 35) dX3_flip_254 rfl ?_
          exact wq_T.less V ⟨rfl, ⟨rfl, ⟨rfl, trivial⟩⟩⟩
    · have V := V.2 c
      refine wq_aload_n (pc := 59) dX3_flip_59 rfl rfl ?_
      refine tg15 (pc := 60) rfl dX3_flip_60 ?_
      refine wq_iconst (pc := 63) dX3_flip_63 csti1 ?_
      refine wq_iload_n (pc := 64) dX3_flip_64 rfl rfl ?_
      refine wq_iadd (pc := 65) dX3_flip_65 ?_
      refine tw_iald' (pc := 66) ok mia15 dX3_flip_66 V (fun y7 V => ?_)
      refine wq_iload_n (pc := 67) dX3_flip_67 rfl rfl ?_
      refine wq_icmp_ne (pc := 68) (tgt := 75) dX3_flip_68 rfl (fun c => ?_) (fun c => ?_)
      · have V := V.1 c
        refine wq_iconst (pc := 75) dX3_flip_75 csti0 ?_
        refine wq_goto (pc := 76) (tgt := 113) dX3_flip_76 rfl ?_
        refine wq_istore_n (L' := [some (.ref o), some (.int x1), some (.int x2), some (.int (0 : Int32)), none, none, none, none, none]) (pc := 113) dX3_flip_113 rfl (Nat.le_of_ble_eq_true rfl) rfl ?_
        refine wq_iload_n (pc := 114) dX3_flip_114 rfl rfl ?_
        refine wq_if_ne (pc := 115) (tgt := 121) dX3_flip_115 rfl (fun c => ?_) (fun c => ?_)
        · have V := V.1 c
          refine wq_iconst (pc := 121) dX3_flip_121 csti0 ?_
          refine wq_istore (L' := [some (.ref o), some (.int x1), some (.int x2), some (.int (0 : Int32)), some (.int (0 : Int32)), none, none, none, none]) (pc := 122) dX3_flip_122 (Nat.le_of_ble_eq_true rfl) rfl ?_
          exact V
        · have V := V.2 c
          refine wq_goto (pc := 118) (tgt := 251) dX3_flip_118 rfl ?_
          refine wq_iinc (L' := [some (.ref o), some (.int x1), some (.int (x2 + (1 : Int32))), some (.int (0 : Int32)), none, none, none, none, none]) (pc := 251) dX3_flip_251 rfl (by rw [csti1]) (Nat.le_of_ble_eq_true rfl) rfl ?_
          refine wq_goto (pc := 254) (tgt := 35) dX3_flip_254 rfl ?_
          exact wq_T.less V ⟨rfl, ⟨rfl, ⟨rfl, trivial⟩⟩⟩
      · have V := V.2 c
        refine wq_iconst (pc := 71) dX3_flip_71 csti1 ?_
        refine wq_goto (pc := 72) (tgt := 113) dX3_flip_72 rfl ?_
        refine wq_istore_n (L' := [some (.ref o), some (.int x1), some (.int x2), some (.int (1 : Int32)), none, none, none, none, none]) (pc := 113) dX3_flip_113 rfl (Nat.le_of_ble_eq_true rfl) rfl ?_
        refine wq_iload_n (pc := 114) dX3_flip_114 rfl rfl ?_
        refine wq_if_ne (pc := 115) (tgt := 121) dX3_flip_115 rfl (fun c => ?_) (fun c => ?_)
        · have V := V.1 c
          refine wq_iconst (pc := 121) dX3_flip_121 csti0 ?_
          refine wq_istore (L' := [some (.ref o), some (.int x1), some (.int x2), some (.int (1 : Int32)), some (.int (0 : Int32)), none, none, none, none]) (pc := 122) dX3_flip_122 (Nat.le_of_ble_eq_true rfl) rfl ?_
          exact V
        · have V := V.2 c
          refine wq_goto (pc := 118) (tgt := 251) dX3_flip_118 rfl ?_
          refine wq_iinc (L' := [some (.ref o), some (.int x1), some (.int (x2 + (1 : Int32))), some (.int (1 : Int32)), none, none, none, none, none]) (pc := 251) dX3_flip_251 rfl (by rw [csti1]) (Nat.le_of_ble_eq_true rfl) rfl ?_
          refine wq_goto (pc := 254) (tgt := 35) dX3_flip_254 rfl ?_
          exact wq_T.less V ⟨rfl, ⟨rfl, ⟨rfl, trivial⟩⟩⟩
theorem vX3_flip_124 {G : wq_G} {l : Launch} {o : Nat} {ad : Nat → Nat} {h : wq_H} {d : Nat} {K : Int32 → tw_S → Prop} (ok : tw_ok G o ad)  {x1 : Int32} {x2 : Int32} {x3 : Int32} {x4 : Int32} {s : tw_S} (V : tw_ci G l o ad h d mX3_outcomes [.ref (ad 15), .int x2] s (fun y2 s1 => (y2 ≤ x4 → tw_T G l o ad h d mX3_flip (tw_qi G o ad h K) 35 [some (.ref o), some (.int x1), some (.int (x2 + (1 : Int32))), none, none, none, none, none, none] [] s1) ∧ (¬ y2 ≤ x4 → (x4 ≤ (x4 ^^^ x3) → tw_ld s1 15 ((17 : Int32) + (((4 : Int32) * x2) + x4)) (fun y3 => tw_ld s1 15 ((17 : Int32) + (((4 : Int32) * x2) + (x4 ^^^ x3))) (fun y4 => tw_st s1 15 ((17 : Int32) + (((4 : Int32) * x2) + x4)) y4 (fun s5 => tw_st s5 15 ((17 : Int32) + (((4 : Int32) * x2) + (x4 ^^^ x3))) y3 (fun s6 => tw_ld s6 17 (((4 : Int32) * x2) + x4) (fun y7 => tw_ld s6 17 (((4 : Int32) * x2) + (x4 ^^^ x3)) (fun y8 => tw_st s6 17 (((4 : Int32) * x2) + x4) y8 (fun s9 => tw_st s9 17 (((4 : Int32) * x2) + (x4 ^^^ x3)) y7 (fun s10 => tw_T G l o ad h d mX3_flip (tw_qi G o ad h K) 124 [some (.ref o), some (.int x1), some (.int x2), some (.int x3), some (.int (x4 + (1 : Int32))), none, none, none, none] [] s10))))))))) ∧ (¬ x4 ≤ (x4 ^^^ x3) → tw_T G l o ad h d mX3_flip (tw_qi G o ad h K) 124 [some (.ref o), some (.int x1), some (.int x2), some (.int x3), some (.int (x4 + (1 : Int32))), none, none, none, none] [] s1)))) : tw_T G l o ad h d mX3_flip (tw_qi G o ad h K) 124 [some (.ref o), some (.int x1), some (.int x2), some (.int x3), some (.int x4), none, none, none, none] [] s := by
  refine wq_iload (pc := 124) dX3_flip_124 rfl ?_
  refine wq_aload_n (pc := 126) dX3_flip_126 rfl rfl ?_
  refine tg15 (pc := 127) rfl dX3_flip_127 ?_
  refine wq_iload_n (pc := 130) dX3_flip_130 rfl rfl ?_
  refine tcq1999 (pc := 131) (As := [.ref (ad 15), .int x2]) (st := [.int x4]) rfl dX3_flip_131 rfl (Nat.le_of_ble_eq_true rfl) V (tw_ki (fun y2 s1 V => ?_))
  refine wq_icmp_ge (pc := 134) (tgt := 251) dX3_flip_134 rfl (fun c => ?_) (fun c => ?_)
  · have V := V.1 c
    refine wq_iinc (L' := [some (.ref o), some (.int x1), some (.int (x2 + (1 : Int32))), some (.int x3), some (.int x4), none, none, none, none]) (pc := 251) dX3_flip_251 rfl (by rw [csti1]) (Nat.le_of_ble_eq_true rfl) rfl ?_
    refine wq_goto (pc := 254) (tgt := 35) dX3_flip_254 rfl ?_
    exact wq_T.less V ⟨rfl, ⟨rfl, ⟨rfl, trivial⟩⟩⟩
  · have V := V.2 c
    refine wq_iload (pc := 137) dX3_flip_137 rfl ?_
    refine wq_iload_n (pc := 139) dX3_flip_139 rfl rfl ?_
    refine wq_ixor (pc := 140) dX3_flip_140 ?_
    refine wq_istore (L' := [some (.ref o), some (.int x1), some (.int x2), some (.int x3), some (.int x4), some (.int (x4 ^^^ x3)), none, none, none]) (pc := 141) dX3_flip_141 (Nat.le_of_ble_eq_true rfl) rfl ?_
    refine wq_iload (pc := 143) dX3_flip_143 rfl ?_
    refine wq_iload (pc := 145) dX3_flip_145 rfl ?_
    refine wq_icmp_ge (pc := 147) (tgt := 153) dX3_flip_147 rfl (fun c => ?_) (fun c => ?_)
    · have V := V.1 c
      refine wq_iconst (pc := 153) dX3_flip_153 csti4 ?_
      refine wq_iload_n (pc := 154) dX3_flip_154 rfl rfl ?_
      refine wq_imul (pc := 155) dX3_flip_155 ?_
      refine wq_iload (pc := 156) dX3_flip_156 rfl ?_
      refine wq_iadd (pc := 158) dX3_flip_158 ?_
      refine wq_istore (L' := [some (.ref o), some (.int x1), some (.int x2), some (.int x3), some (.int x4), some (.int (x4 ^^^ x3)), some (.int (((4 : Int32) * x2) + x4)), none, none]) (pc := 159) dX3_flip_159 (Nat.le_of_ble_eq_true rfl) rfl ?_
      refine wq_iconst (pc := 161) dX3_flip_161 csti4 ?_
      refine wq_iload_n (pc := 162) dX3_flip_162 rfl rfl ?_
      refine wq_imul (pc := 163) dX3_flip_163 ?_
      refine wq_iload (pc := 164) dX3_flip_164 rfl ?_
      refine wq_iadd (pc := 166) dX3_flip_166 ?_
      refine wq_istore (L' := [some (.ref o), some (.int x1), some (.int x2), some (.int x3), some (.int x4), some (.int (x4 ^^^ x3)), some (.int (((4 : Int32) * x2) + x4)), some (.int (((4 : Int32) * x2) + (x4 ^^^ x3))), none]) (pc := 167) dX3_flip_167 (Nat.le_of_ble_eq_true rfl) rfl ?_
      refine wq_aload_n (pc := 169) dX3_flip_169 rfl rfl ?_
      refine tg15 (pc := 170) rfl dX3_flip_170 ?_
      refine wq_bipush (pc := 173) dX3_flip_173 cstb17 ?_
      refine wq_iload (pc := 175) dX3_flip_175 rfl ?_
      refine wq_iadd (pc := 177) dX3_flip_177 ?_
      refine tw_iald' (pc := 178) ok mia15 dX3_flip_178 V (fun y3 V => ?_)
      refine wq_istore (L' := [some (.ref o), some (.int x1), some (.int x2), some (.int x3), some (.int x4), some (.int (x4 ^^^ x3)), some (.int (((4 : Int32) * x2) + x4)), some (.int (((4 : Int32) * x2) + (x4 ^^^ x3))), some (.int y3)]) (pc := 179) dX3_flip_179 (Nat.le_of_ble_eq_true rfl) rfl ?_
      refine wq_aload_n (pc := 181) dX3_flip_181 rfl rfl ?_
      refine tg15 (pc := 182) rfl dX3_flip_182 ?_
      refine wq_bipush (pc := 185) dX3_flip_185 cstb17 ?_
      refine wq_iload (pc := 187) dX3_flip_187 rfl ?_
      refine wq_iadd (pc := 189) dX3_flip_189 ?_
      refine wq_aload_n (pc := 190) dX3_flip_190 rfl rfl ?_
      refine tg15 (pc := 191) rfl dX3_flip_191 ?_
      refine wq_bipush (pc := 194) dX3_flip_194 cstb17 ?_
      refine wq_iload (pc := 196) dX3_flip_196 rfl ?_
      refine wq_iadd (pc := 198) dX3_flip_198 ?_
      refine tw_iald' (pc := 199) ok mia15 dX3_flip_199 V (fun y4 V => ?_)
      refine tw_iast' (pc := 200) ok mia15 dX3_flip_200 V (fun s5 V => ?_)
      refine wq_aload_n (pc := 201) dX3_flip_201 rfl rfl ?_
      refine tg15 (pc := 202) rfl dX3_flip_202 ?_
      refine wq_bipush (pc := 205) dX3_flip_205 cstb17 ?_
      refine wq_iload (pc := 207) dX3_flip_207 rfl ?_
      refine wq_iadd (pc := 209) dX3_flip_209 ?_
      refine wq_iload (pc := 210) dX3_flip_210 rfl ?_
      refine tw_iast' (pc := 212) ok mia15 dX3_flip_212 V (fun s6 V => ?_)
      refine wq_aload_n (pc := 213) dX3_flip_213 rfl rfl ?_
      refine tg17 (pc := 214) rfl dX3_flip_214 ?_
      refine wq_iload (pc := 217) dX3_flip_217 rfl ?_
      refine tw_iald' (pc := 219) ok mia17 dX3_flip_219 V (fun y7 V => ?_)
      refine wq_istore (L' := [some (.ref o), some (.int x1), some (.int x2), some (.int x3), some (.int x4), some (.int (x4 ^^^ x3)), some (.int (((4 : Int32) * x2) + x4)), some (.int (((4 : Int32) * x2) + (x4 ^^^ x3))), some (.int y7)]) (pc := 220) dX3_flip_220 (Nat.le_of_ble_eq_true rfl) rfl ?_
      refine wq_aload_n (pc := 222) dX3_flip_222 rfl rfl ?_
      refine tg17 (pc := 223) rfl dX3_flip_223 ?_
      refine wq_iload (pc := 226) dX3_flip_226 rfl ?_
      refine wq_aload_n (pc := 228) dX3_flip_228 rfl rfl ?_
      refine tg17 (pc := 229) rfl dX3_flip_229 ?_
      refine wq_iload (pc := 232) dX3_flip_232 rfl ?_
      refine tw_iald' (pc := 234) ok mia17 dX3_flip_234 V (fun y8 V => ?_)
      refine tw_iast' (pc := 235) ok mia17 dX3_flip_235 V (fun s9 V => ?_)
      refine wq_aload_n (pc := 236) dX3_flip_236 rfl rfl ?_
      refine tg17 (pc := 237) rfl dX3_flip_237 ?_
      refine wq_iload (pc := 240) dX3_flip_240 rfl ?_
      refine wq_iload (pc := 242) dX3_flip_242 rfl ?_
      refine tw_iast' (pc := 244) ok mia17 dX3_flip_244 V (fun s10 V => ?_)
      refine wq_iinc (L' := [some (.ref o), some (.int x1), some (.int x2), some (.int x3), some (.int (x4 + (1 : Int32))), some (.int (x4 ^^^ x3)), some (.int (((4 : Int32) * x2) + x4)), some (.int (((4 : Int32) * x2) + (x4 ^^^ x3))), some (.int y7)]) (pc := 245) dX3_flip_245 rfl (by rw [csti1]) (Nat.le_of_ble_eq_true rfl) rfl ?_
      refine wq_goto (pc := 248) (tgt := 124) dX3_flip_248 rfl ?_
      exact wq_T.less V ⟨rfl, ⟨rfl, ⟨rfl, ⟨rfl, ⟨rfl, trivial⟩⟩⟩⟩⟩
    · have V := V.2 c
      refine wq_goto (pc := 150) (tgt := 245) dX3_flip_150 rfl ?_
      refine wq_iinc (L' := [some (.ref o), some (.int x1), some (.int x2), some (.int x3), some (.int (x4 + (1 : Int32))), some (.int (x4 ^^^ x3)), none, none, none]) (pc := 245) dX3_flip_245 rfl (by rw [csti1]) (Nat.le_of_ble_eq_true rfl) rfl ?_
      refine wq_goto (pc := 248) (tgt := 124) dX3_flip_248 rfl ?_
      exact wq_T.less V ⟨rfl, ⟨rfl, ⟨rfl, ⟨rfl, ⟨rfl, trivial⟩⟩⟩⟩⟩
theorem vX3_copy_0 {G : wq_G} {l : Launch} {o : Nat} {ad : Nat → Nat} {h : wq_H} {d : Nat} {K : tw_S → Prop} (ok : tw_ok G o ad) {j0 : Nat} (hj0 : j0 ∈ tw_ia) {j2 : Nat} (hj2 : j2 ∈ tw_ia) {x1 : Int32} {x3 : Int32} {x4 : Int32} {s : tw_S} (V : tw_T G l o ad h d mX3_copy (tw_qv G o ad h K) 3 [some (.ref (ad j0)), some (.int x1), some (.ref (ad j2)), some (.int x3), some (.int x4), some (.int (0 : Int32))] [] s) : tw_T G l o ad h d mX3_copy (tw_qv G o ad h K) 0 [some (.ref (ad j0)), some (.int x1), some (.ref (ad j2)), some (.int x3), some (.int x4), none] [] s := by
  refine wq_iconst (pc := 0) dX3_copy_0 csti0 ?_
  refine wq_istore (L' := [some (.ref (ad j0)), some (.int x1), some (.ref (ad j2)), some (.int x3), some (.int x4), some (.int (0 : Int32))]) (pc := 1) dX3_copy_1 (Nat.le_of_ble_eq_true rfl) rfl ?_
  exact V
theorem vX3_copy_3 {G : wq_G} {l : Launch} {o : Nat} {ad : Nat → Nat} {h : wq_H} {d : Nat} {K : tw_S → Prop} (ok : tw_ok G o ad) {j0 : Nat} (hj0 : j0 ∈ tw_ia) {j2 : Nat} (hj2 : j2 ∈ tw_ia) {x1 : Int32} {x3 : Int32} {x4 : Int32} {x5 : Int32} {s : tw_S} (V : (x4 ≤ x5 → K s) ∧ (¬ x4 ≤ x5 → tw_ld s j0 (x1 + x5) (fun y1 => tw_st s j2 (x3 + x5) y1 (fun s2 => tw_T G l o ad h d mX3_copy (tw_qv G o ad h K) 3 [some (.ref (ad j0)), some (.int x1), some (.ref (ad j2)), some (.int x3), some (.int x4), some (.int (x5 + (1 : Int32)))] [] s2)))) : tw_T G l o ad h d mX3_copy (tw_qv G o ad h K) 3 [some (.ref (ad j0)), some (.int x1), some (.ref (ad j2)), some (.int x3), some (.int x4), some (.int x5)] [] s := by
  refine wq_iload (pc := 3) dX3_copy_3 rfl ?_
  refine wq_iload (pc := 5) dX3_copy_5 rfl ?_
  refine wq_icmp_ge (pc := 7) (tgt := 28) dX3_copy_7 rfl (fun c => ?_) (fun c => ?_)
  · have V := V.1 c
    refine wq_vret (pc := 28) dX3_copy_28 rfl ⟨_, rfl, rfl, V⟩
  · have V := V.2 c
    refine wq_aload_n (pc := 10) dX3_copy_10 rfl rfl ?_
    refine wq_iload_n (pc := 11) dX3_copy_11 rfl rfl ?_
    refine wq_iload (pc := 12) dX3_copy_12 rfl ?_
    refine wq_iadd (pc := 14) dX3_copy_14 ?_
    refine wq_aload_n (pc := 15) dX3_copy_15 rfl rfl ?_
    refine wq_iload_n (pc := 16) dX3_copy_16 rfl rfl ?_
    refine wq_iload (pc := 17) dX3_copy_17 rfl ?_
    refine wq_iadd (pc := 19) dX3_copy_19 ?_
    refine tw_iald' (pc := 20) ok hj0 dX3_copy_20 V (fun y1 V => ?_)
    refine tw_iast' (pc := 21) ok hj2 dX3_copy_21 V (fun s2 V => ?_)
    refine wq_iinc (L' := [some (.ref (ad j0)), some (.int x1), some (.ref (ad j2)), some (.int x3), some (.int x4), some (.int (x5 + (1 : Int32)))]) (pc := 22) dX3_copy_22 rfl (by rw [csti1]) (Nat.le_of_ble_eq_true rfl) rfl ?_
    refine wq_goto (pc := 25) (tgt := 3) dX3_copy_25 rfl ?_
    exact V
theorem vX3_did_0 {G : wq_G} {l : Launch} {o : Nat} {ad : Nat → Nat} {h : wq_H} {d : Nat} {K : Int32 → tw_S → Prop} (ok : tw_ok G o ad)  {x1 : Int32} {x2 : Int32} {x3 : Int32} {x4 : Int32} {x5 : Int32} {s : tw_S} (V : tw_cv G l o ad h d mX3_keep [.ref (ad 19), .ref (ad 22), .int (s.1 24), .ref (ad 18), .int x1, .int x2, .int x3, .int x4, .int x5] s (fun s1 => (¬ (s1.1 24) = (20 : Int32) → tw_pt s1 24 ((s1.1 24) + (1 : Int32)) (fun s2 => tw_pt s2 25 (0 : Int32) (fun s3 => K (1 : Int32) s3))) ∧ ((s1.1 24) = (20 : Int32) → tw_pt s1 24 (20 : Int32) (fun s4 => tw_pt s4 25 (0 : Int32) (fun s5 => K (1 : Int32) s5))))) : tw_T G l o ad h d mX3_did (tw_qi G o ad h K) 0 [some (.ref o), some (.int x1), some (.int x2), some (.int x3), some (.int x4), some (.int x5)] [] s := by
  refine wq_aload_n (pc := 0) dX3_did_0 rfl rfl ?_
  refine tg19 (pc := 1) rfl dX3_did_1 ?_
  refine wq_aload_n (pc := 4) dX3_did_4 rfl rfl ?_
  refine tg22 (pc := 5) rfl dX3_did_5 ?_
  refine wq_aload_n (pc := 8) dX3_did_8 rfl rfl ?_
  refine tg24 (pc := 9) rfl dX3_did_9 ?_
  refine wq_aload_n (pc := 12) dX3_did_12 rfl rfl ?_
  refine tg18 (pc := 13) rfl dX3_did_13 ?_
  refine wq_iload_n (pc := 16) dX3_did_16 rfl rfl ?_
  refine wq_iload_n (pc := 17) dX3_did_17 rfl rfl ?_
  refine wq_iload_n (pc := 18) dX3_did_18 rfl rfl ?_
  refine wq_iload (pc := 19) dX3_did_19 rfl ?_
  refine wq_iload (pc := 21) dX3_did_21 rfl ?_
  refine tcq2279 (pc := 23) (As := [.ref (ad 19), .ref (ad 22), .int (s.1 24), .ref (ad 18), .int x1, .int x2, .int x3, .int x4, .int x5]) (st := []) rfl dX3_did_23 rfl (Nat.le_of_ble_eq_true rfl) V (tw_kv (fun s1 V => ?_))
  refine wq_aload_n (pc := 26) dX3_did_26 rfl rfl ?_
  refine wq_aload_n (pc := 27) dX3_did_27 rfl rfl ?_
  refine tg24 (pc := 28) rfl dX3_did_28 ?_
  refine wq_bipush (pc := 31) dX3_did_31 cstb20 ?_
  refine wq_icmp_ne (pc := 33) (tgt := 41) dX3_did_33 rfl (fun c => ?_) (fun c => ?_)
  · have V := V.1 c
    refine wq_aload_n (pc := 41) dX3_did_41 rfl rfl ?_
    refine tg24 (pc := 42) rfl dX3_did_42 ?_
    refine wq_iconst (pc := 45) dX3_did_45 csti1 ?_
    refine wq_iadd (pc := 46) dX3_did_46 ?_
    refine tp24 (pc := 47) rfl ok dX3_did_47 V (fun s2 V => ?_)
    refine wq_aload_n (pc := 50) dX3_did_50 rfl rfl ?_
    refine wq_iconst (pc := 51) dX3_did_51 csti0 ?_
    refine tp25 (pc := 52) rfl ok dX3_did_52 V (fun s3 V => ?_)
    refine wq_iconst (pc := 55) dX3_did_55 csti1 ?_
    refine wq_zret (pc := 56) dX3_did_56 rfl tw_nb1 ⟨_, _, rfl, rfl, V⟩
  · have V := V.2 c
    refine wq_bipush (pc := 36) dX3_did_36 cstb20 ?_
    refine wq_goto (pc := 38) (tgt := 47) dX3_did_38 rfl ?_
    refine tp24 (pc := 47) rfl ok dX3_did_47 V (fun s4 V => ?_)
    refine wq_aload_n (pc := 50) dX3_did_50 rfl rfl ?_
    refine wq_iconst (pc := 51) dX3_did_51 csti0 ?_
    refine tp25 (pc := 52) rfl ok dX3_did_52 V (fun s5 V => ?_)
    refine wq_iconst (pc := 55) dX3_did_55 csti1 ?_
    refine wq_zret (pc := 56) dX3_did_56 rfl tw_nb1 ⟨_, _, rfl, rfl, V⟩
theorem vX3_keep_0 {G : wq_G} {l : Launch} {o : Nat} {ad : Nat → Nat} {h : wq_H} {d : Nat} {K : tw_S → Prop} (ok : tw_ok G o ad) {j0 : Nat} (hj0 : j0 ∈ tw_ia) {j1 : Nat} (hj1 : j1 ∈ tw_ia) {j3 : Nat} (hj3 : j3 ∈ tw_ia) {x2 : Int32} {x4 : Int32} {x5 : Int32} {x6 : Int32} {x7 : Int32} {x8 : Int32} {s : tw_S} (V : (¬ x2 = (20 : Int32) → tw_cv G l o ad h d mX3_copy [.ref (ad j3), .int (0 : Int32), .ref (ad j0), .int ((49 : Int32) * x2), .int (49 : Int32)] s (fun s1 => tw_st s1 j1 ((5 : Int32) * x2) x4 (fun s2 => tw_st s2 j1 (((5 : Int32) * x2) + (1 : Int32)) x5 (fun s3 => tw_st s3 j1 (((5 : Int32) * x2) + (2 : Int32)) x6 (fun s4 => tw_st s4 j1 (((5 : Int32) * x2) + (3 : Int32)) x7 (fun s5 => tw_st s5 j1 (((5 : Int32) * x2) + (4 : Int32)) x8 (fun s6 => K s6))))))) ∧ (x2 = (20 : Int32) → tw_T G l o ad h d mX3_keep (tw_qv G o ad h K) 12 [some (.ref (ad j0)), some (.ref (ad j1)), none, some (.ref (ad j3)), some (.int x4), some (.int x5), some (.int x6), some (.int x7), some (.int x8), some (.int x2), some (.int (0 : Int32))] [] s)) : tw_T G l o ad h d mX3_keep (tw_qv G o ad h K) 0 [some (.ref (ad j0)), some (.ref (ad j1)), some (.int x2), some (.ref (ad j3)), some (.int x4), some (.int x5), some (.int x6), some (.int x7), some (.int x8), none, none] [] s := by
  refine wq_iload_n (pc := 0) dX3_keep_0 rfl rfl ?_
  refine wq_istore (L' := [some (.ref (ad j0)), some (.ref (ad j1)), some (.int x2), some (.ref (ad j3)), some (.int x4), some (.int x5), some (.int x6), some (.int x7), some (.int x8), some (.int x2), none]) (pc := 1) dX3_keep_1 (Nat.le_of_ble_eq_true rfl) rfl ?_
  refine wq_iload_n (pc := 3) dX3_keep_3 rfl rfl ?_
  refine wq_bipush (pc := 4) dX3_keep_4 cstb20 ?_
  refine wq_icmp_ne (pc := 6) (tgt := 66) dX3_keep_6 rfl (fun c => ?_) (fun c => ?_)
  · have V := V.1 c
    refine wq_aload_n (pc := 66) dX3_keep_66 rfl rfl ?_
    refine wq_iconst (pc := 67) dX3_keep_67 csti0 ?_
    refine wq_aload_n (pc := 68) dX3_keep_68 rfl rfl ?_
    refine wq_bipush (pc := 69) dX3_keep_69 cstb49 ?_
    refine wq_iload (pc := 71) dX3_keep_71 rfl ?_
    refine wq_imul (pc := 73) dX3_keep_73 ?_
    refine wq_bipush (pc := 74) dX3_keep_74 cstb49 ?_
    refine tcq2272 (pc := 76) (As := [.ref (ad j3), .int (0 : Int32), .ref (ad j0), .int ((49 : Int32) * x2), .int (49 : Int32)]) (st := []) rfl dX3_keep_76 rfl (Nat.le_of_ble_eq_true rfl) V (tw_kv (fun s1 V => ?_))
    refine wq_aload_n (pc := 79) dX3_keep_79 rfl rfl ?_
    refine wq_iconst (pc := 80) dX3_keep_80 csti5 ?_
    refine wq_iload (pc := 81) dX3_keep_81 rfl ?_
    refine wq_imul (pc := 83) dX3_keep_83 ?_
    refine wq_iload (pc := 84) dX3_keep_84 rfl ?_
    refine tw_iast' (pc := 86) ok hj1 dX3_keep_86 V (fun s2 V => ?_)
    refine wq_aload_n (pc := 87) dX3_keep_87 rfl rfl ?_
    refine wq_iconst (pc := 88) dX3_keep_88 csti5 ?_
    refine wq_iload (pc := 89) dX3_keep_89 rfl ?_
    refine wq_imul (pc := 91) dX3_keep_91 ?_
    refine wq_iconst (pc := 92) dX3_keep_92 csti1 ?_
    refine wq_iadd (pc := 93) dX3_keep_93 ?_
    refine wq_iload (pc := 94) dX3_keep_94 rfl ?_
    refine tw_iast' (pc := 96) ok hj1 dX3_keep_96 V (fun s3 V => ?_)
    refine wq_aload_n (pc := 97) dX3_keep_97 rfl rfl ?_
    refine wq_iconst (pc := 98) dX3_keep_98 csti5 ?_
    refine wq_iload (pc := 99) dX3_keep_99 rfl ?_
    refine wq_imul (pc := 101) dX3_keep_101 ?_
    refine wq_iconst (pc := 102) dX3_keep_102 csti2 ?_
    refine wq_iadd (pc := 103) dX3_keep_103 ?_
    refine wq_iload (pc := 104) dX3_keep_104 rfl ?_
    refine tw_iast' (pc := 106) ok hj1 dX3_keep_106 V (fun s4 V => ?_)
    refine wq_aload_n (pc := 107) dX3_keep_107 rfl rfl ?_
    refine wq_iconst (pc := 108) dX3_keep_108 csti5 ?_
    refine wq_iload (pc := 109) dX3_keep_109 rfl ?_
    refine wq_imul (pc := 111) dX3_keep_111 ?_
    refine wq_iconst (pc := 112) dX3_keep_112 csti3 ?_
    refine wq_iadd (pc := 113) dX3_keep_113 ?_
    refine wq_iload (pc := 114) dX3_keep_114 rfl ?_
    refine tw_iast' (pc := 116) ok hj1 dX3_keep_116 V (fun s5 V => ?_)
    refine wq_aload_n (pc := 117) dX3_keep_117 rfl rfl ?_
    refine wq_iconst (pc := 118) dX3_keep_118 csti5 ?_
    refine wq_iload (pc := 119) dX3_keep_119 rfl ?_
    refine wq_imul (pc := 121) dX3_keep_121 ?_
    refine wq_iconst (pc := 122) dX3_keep_122 csti4 ?_
    refine wq_iadd (pc := 123) dX3_keep_123 ?_
    refine wq_iload (pc := 124) dX3_keep_124 rfl ?_
    refine tw_iast' (pc := 126) ok hj1 dX3_keep_126 V (fun s6 V => ?_)
    refine wq_vret (pc := 127) dX3_keep_127 rfl ⟨_, rfl, rfl, V⟩
  · have V := V.2 c
    refine wq_iconst (pc := 9) dX3_keep_9 csti0 ?_
    refine wq_istore (L' := [some (.ref (ad j0)), some (.ref (ad j1)), some (.int x2), some (.ref (ad j3)), some (.int x4), some (.int x5), some (.int x6), some (.int x7), some (.int x8), some (.int x2), some (.int (0 : Int32))]) (pc := 10) dX3_keep_10 (Nat.le_of_ble_eq_true rfl) rfl ?_
    exact wq_T.less V ⟨rfl, ⟨rfl, ⟨rfl, ⟨rfl, ⟨rfl, ⟨rfl, ⟨rfl, ⟨rfl, ⟨rfl, ⟨rfl, trivial⟩⟩⟩⟩⟩⟩⟩⟩⟩⟩
theorem vX3_keep_12 {G : wq_G} {l : Launch} {o : Nat} {ad : Nat → Nat} {h : wq_H} {d : Nat} {K : tw_S → Prop} (ok : tw_ok G o ad) {j0 : Nat} (hj0 : j0 ∈ tw_ia) {j1 : Nat} (hj1 : j1 ∈ tw_ia) {j3 : Nat} (hj3 : j3 ∈ tw_ia) {x4 : Int32} {x5 : Int32} {x6 : Int32} {x7 : Int32} {x8 : Int32} {x9 : Int32} {x10 : Int32} {s : tw_S} (V : ((931 : Int32) ≤ x10 → tw_T G l o ad h d mX3_keep (tw_qv G o ad h K) 40 [some (.ref (ad j0)), some (.ref (ad j1)), none, some (.ref (ad j3)), some (.int x4), some (.int x5), some (.int x6), some (.int x7), some (.int x8), some (.int x9), some (.int (0 : Int32))] [] s) ∧ (¬ (931 : Int32) ≤ x10 → tw_ld s j0 (x10 + (49 : Int32)) (fun y1 => tw_st s j0 x10 y1 (fun s2 => tw_T G l o ad h d mX3_keep (tw_qv G o ad h K) 12 [some (.ref (ad j0)), some (.ref (ad j1)), none, some (.ref (ad j3)), some (.int x4), some (.int x5), some (.int x6), some (.int x7), some (.int x8), some (.int x9), some (.int (x10 + (1 : Int32)))] [] s2)))) : tw_T G l o ad h d mX3_keep (tw_qv G o ad h K) 12 [some (.ref (ad j0)), some (.ref (ad j1)), none, some (.ref (ad j3)), some (.int x4), some (.int x5), some (.int x6), some (.int x7), some (.int x8), some (.int x9), some (.int x10)] [] s := by
  refine wq_iload (pc := 12) dX3_keep_12 rfl ?_
  refine wq_sipush (pc := 14) dX3_keep_14 csts931 ?_
  refine wq_icmp_ge (pc := 17) (tgt := 37) dX3_keep_17 rfl (fun c => ?_) (fun c => ?_)
  · have V := V.1 c
    refine wq_iconst (pc := 37) dX3_keep_37 csti0 ?_
    refine wq_istore (L' := [some (.ref (ad j0)), some (.ref (ad j1)), none, some (.ref (ad j3)), some (.int x4), some (.int x5), some (.int x6), some (.int x7), some (.int x8), some (.int x9), some (.int (0 : Int32))]) (pc := 38) dX3_keep_38 (Nat.le_of_ble_eq_true rfl) rfl ?_
    exact V
  · have V := V.2 c
    refine wq_aload_n (pc := 20) dX3_keep_20 rfl rfl ?_
    refine wq_iload (pc := 21) dX3_keep_21 rfl ?_
    refine wq_aload_n (pc := 23) dX3_keep_23 rfl rfl ?_
    refine wq_iload (pc := 24) dX3_keep_24 rfl ?_
    refine wq_bipush (pc := 26) dX3_keep_26 cstb49 ?_
    refine wq_iadd (pc := 28) dX3_keep_28 ?_
    refine tw_iald' (pc := 29) ok hj0 dX3_keep_29 V (fun y1 V => ?_)
    refine tw_iast' (pc := 30) ok hj0 dX3_keep_30 V (fun s2 V => ?_)
    refine wq_iinc (L' := [some (.ref (ad j0)), some (.ref (ad j1)), none, some (.ref (ad j3)), some (.int x4), some (.int x5), some (.int x6), some (.int x7), some (.int x8), some (.int x9), some (.int (x10 + (1 : Int32)))]) (pc := 31) dX3_keep_31 rfl (by rw [csti1]) (Nat.le_of_ble_eq_true rfl) rfl ?_
    refine wq_goto (pc := 34) (tgt := 12) dX3_keep_34 rfl ?_
    exact V
theorem vX3_keep_40 {G : wq_G} {l : Launch} {o : Nat} {ad : Nat → Nat} {h : wq_H} {d : Nat} {K : tw_S → Prop} (ok : tw_ok G o ad) {j0 : Nat} (hj0 : j0 ∈ tw_ia) {j1 : Nat} (hj1 : j1 ∈ tw_ia) {j3 : Nat} (hj3 : j3 ∈ tw_ia) {x4 : Int32} {x5 : Int32} {x6 : Int32} {x7 : Int32} {x8 : Int32} {x9 : Int32} {x10 : Int32} {s : tw_S} (V : ((95 : Int32) ≤ x10 → tw_cv G l o ad h d mX3_copy [.ref (ad j3), .int (0 : Int32), .ref (ad j0), .int ((49 : Int32) * (x9 + (-1 : Int32))), .int (49 : Int32)] s (fun s1 => tw_st s1 j1 ((5 : Int32) * (x9 + (-1 : Int32))) x4 (fun s2 => tw_st s2 j1 (((5 : Int32) * (x9 + (-1 : Int32))) + (1 : Int32)) x5 (fun s3 => tw_st s3 j1 (((5 : Int32) * (x9 + (-1 : Int32))) + (2 : Int32)) x6 (fun s4 => tw_st s4 j1 (((5 : Int32) * (x9 + (-1 : Int32))) + (3 : Int32)) x7 (fun s5 => tw_st s5 j1 (((5 : Int32) * (x9 + (-1 : Int32))) + (4 : Int32)) x8 (fun s6 => K s6))))))) ∧ (¬ (95 : Int32) ≤ x10 → tw_ld s j1 (x10 + (5 : Int32)) (fun y7 => tw_st s j1 x10 y7 (fun s8 => tw_T G l o ad h d mX3_keep (tw_qv G o ad h K) 40 [some (.ref (ad j0)), some (.ref (ad j1)), none, some (.ref (ad j3)), some (.int x4), some (.int x5), some (.int x6), some (.int x7), some (.int x8), some (.int x9), some (.int (x10 + (1 : Int32)))] [] s8)))) : tw_T G l o ad h d mX3_keep (tw_qv G o ad h K) 40 [some (.ref (ad j0)), some (.ref (ad j1)), none, some (.ref (ad j3)), some (.int x4), some (.int x5), some (.int x6), some (.int x7), some (.int x8), some (.int x9), some (.int x10)] [] s := by
  refine wq_iload (pc := 40) dX3_keep_40 rfl ?_
  refine wq_bipush (pc := 42) dX3_keep_42 cstb95 ?_
  refine wq_icmp_ge (pc := 44) (tgt := 63) dX3_keep_44 rfl (fun c => ?_) (fun c => ?_)
  · have V := V.1 c
    refine wq_iinc (L' := [some (.ref (ad j0)), some (.ref (ad j1)), none, some (.ref (ad j3)), some (.int x4), some (.int x5), some (.int x6), some (.int x7), some (.int x8), some (.int (x9 + (-1 : Int32))), some (.int x10)]) (pc := 63) dX3_keep_63 rfl (by rw [cstim1]) (Nat.le_of_ble_eq_true rfl) rfl ?_
    refine wq_aload_n (pc := 66) dX3_keep_66 rfl rfl ?_
    refine wq_iconst (pc := 67) dX3_keep_67 csti0 ?_
    refine wq_aload_n (pc := 68) dX3_keep_68 rfl rfl ?_
    refine wq_bipush (pc := 69) dX3_keep_69 cstb49 ?_
    refine wq_iload (pc := 71) dX3_keep_71 rfl ?_
    refine wq_imul (pc := 73) dX3_keep_73 ?_
    refine wq_bipush (pc := 74) dX3_keep_74 cstb49 ?_
    refine tcq2272 (pc := 76) (As := [.ref (ad j3), .int (0 : Int32), .ref (ad j0), .int ((49 : Int32) * (x9 + (-1 : Int32))), .int (49 : Int32)]) (st := []) rfl dX3_keep_76 rfl (Nat.le_of_ble_eq_true rfl) V (tw_kv (fun s1 V => ?_))
    refine wq_aload_n (pc := 79) dX3_keep_79 rfl rfl ?_
    refine wq_iconst (pc := 80) dX3_keep_80 csti5 ?_
    refine wq_iload (pc := 81) dX3_keep_81 rfl ?_
    refine wq_imul (pc := 83) dX3_keep_83 ?_
    refine wq_iload (pc := 84) dX3_keep_84 rfl ?_
    refine tw_iast' (pc := 86) ok hj1 dX3_keep_86 V (fun s2 V => ?_)
    refine wq_aload_n (pc := 87) dX3_keep_87 rfl rfl ?_
    refine wq_iconst (pc := 88) dX3_keep_88 csti5 ?_
    refine wq_iload (pc := 89) dX3_keep_89 rfl ?_
    refine wq_imul (pc := 91) dX3_keep_91 ?_
    refine wq_iconst (pc := 92) dX3_keep_92 csti1 ?_
    refine wq_iadd (pc := 93) dX3_keep_93 ?_
    refine wq_iload (pc := 94) dX3_keep_94 rfl ?_
    refine tw_iast' (pc := 96) ok hj1 dX3_keep_96 V (fun s3 V => ?_)
    refine wq_aload_n (pc := 97) dX3_keep_97 rfl rfl ?_
    refine wq_iconst (pc := 98) dX3_keep_98 csti5 ?_
    refine wq_iload (pc := 99) dX3_keep_99 rfl ?_
    refine wq_imul (pc := 101) dX3_keep_101 ?_
    refine wq_iconst (pc := 102) dX3_keep_102 csti2 ?_
    refine wq_iadd (pc := 103) dX3_keep_103 ?_
    refine wq_iload (pc := 104) dX3_keep_104 rfl ?_
    refine tw_iast' (pc := 106) ok hj1 dX3_keep_106 V (fun s4 V => ?_)
    refine wq_aload_n (pc := 107) dX3_keep_107 rfl rfl ?_
    refine wq_iconst (pc := 108) dX3_keep_108 csti5 ?_
    refine wq_iload (pc := 109) dX3_keep_109 rfl ?_
    refine wq_imul (pc := 111) dX3_keep_111 ?_
    refine wq_iconst (pc := 112) dX3_keep_112 csti3 ?_
    refine wq_iadd (pc := 113) dX3_keep_113 ?_
    refine wq_iload (pc := 114) dX3_keep_114 rfl ?_
    refine tw_iast' (pc := 116) ok hj1 dX3_keep_116 V (fun s5 V => ?_)
    refine wq_aload_n (pc := 117) dX3_keep_117 rfl rfl ?_
    refine wq_iconst (pc := 118) dX3_keep_118 csti5 ?_
    refine wq_iload (pc := 119) dX3_keep_119 rfl ?_
    refine wq_imul (pc := 121) dX3_keep_121 ?_
    refine wq_iconst (pc := 122) dX3_keep_122 csti4 ?_
    refine wq_iadd (pc := 123) dX3_keep_123 ?_
    refine wq_iload (pc := 124) dX3_keep_124 rfl ?_
    refine tw_iast' (pc := 126) ok hj1 dX3_keep_126 V (fun s6 V => ?_)
    refine wq_vret (pc := 127) dX3_keep_127 rfl ⟨_, rfl, rfl, V⟩
  · have V := V.2 c
    refine wq_aload_n (pc := 47) dX3_keep_47 rfl rfl ?_
    refine wq_iload (pc := 48) dX3_keep_48 rfl ?_
    refine wq_aload_n (pc := 50) dX3_keep_50 rfl rfl ?_
    refine wq_iload (pc := 51) dX3_keep_51 rfl ?_
    refine wq_iconst (pc := 53) dX3_keep_53 csti5 ?_
    refine wq_iadd (pc := 54) dX3_keep_54 ?_
    refine tw_iald' (pc := 55) ok hj1 dX3_keep_55 V (fun y7 V => ?_)
    refine tw_iast' (pc := 56) ok hj1 dX3_keep_56 V (fun s8 V => ?_)
    refine wq_iinc (L' := [some (.ref (ad j0)), some (.ref (ad j1)), none, some (.ref (ad j3)), some (.int x4), some (.int x5), some (.int x6), some (.int x7), some (.int x8), some (.int x9), some (.int (x10 + (1 : Int32)))]) (pc := 57) dX3_keep_57 rfl (by rw [csti1]) (Nat.le_of_ble_eq_true rfl) rfl ?_
    refine wq_goto (pc := 60) (tgt := 40) dX3_keep_60 rfl ?_
    exact V
theorem vX3_drop_0 {G : wq_G} {l : Launch} {o : Nat} {ad : Nat → Nat} {h : wq_H} {d : Nat} {K : Int32 → tw_S → Prop} (ok : tw_ok G o ad)  {x1 : Int32} {s : tw_S} (V : tw_cv G l o ad h d mX3_good [.ref o] s (fun s1 => tw_ci G l o ad h d mX3_isSet [.ref o, .int x1] s1 (fun y3 s2 => (¬ y3 = 0 → tw_cv G l o ad h d mX3_copy [.ref (ad 15), .int (0 : Int32), .ref (ad 18), .int (0 : Int32), .int (49 : Int32)] s2 (fun s4 => tw_cv G l o ad h d mX3_goesAway [.ref o, .int x1] s4 (fun s5 => tw_ci G l o ad h d mX3_did [.ref o, .int (1 : Int32), .int x1, .int (-2 : Int32), .int (-2 : Int32), .int (-2 : Int32)] s5 (fun y7 s6 => (y7 = 0 ∨ y7 = 1) ∧ K y7 s6)))) ∧ (y3 = 0 → tw_ci G l o ad h d mX3_isNot [.ref o, .int (1 : Int32)] s2 (fun y9 s8 => (y9 = 0 ∨ y9 = 1) ∧ K y9 s8))))) : tw_T G l o ad h d mX3_drop (tw_qi G o ad h K) 0 [some (.ref o), some (.int x1)] [] s := by
  refine wq_aload_n (pc := 0) dX3_drop_0 rfl rfl ?_
  refine tcq1836 (pc := 1) (As := []) (st := []) rfl dX3_drop_1 rfl (Nat.le_of_ble_eq_true rfl) V (tw_kv (fun s1 V => ?_))
  refine wq_aload_n (pc := 4) dX3_drop_4 rfl rfl ?_
  refine wq_iload_n (pc := 5) dX3_drop_5 rfl rfl ?_
  refine tcq2047 (pc := 6) (As := [.int x1]) (st := []) rfl dX3_drop_6 rfl (Nat.le_of_ble_eq_true rfl) V (tw_ki (fun y3 s2 V => ?_))
  refine wq_if_ne (pc := 9) (tgt := 18) dX3_drop_9 rfl (fun c => ?_) (fun c => ?_)
  · have V := V.1 c
    refine wq_aload_n (pc := 18) dX3_drop_18 rfl rfl ?_
    refine tg15 (pc := 19) rfl dX3_drop_19 ?_
    refine wq_iconst (pc := 22) dX3_drop_22 csti0 ?_
    refine wq_aload_n (pc := 23) dX3_drop_23 rfl rfl ?_
    refine tg18 (pc := 24) rfl dX3_drop_24 ?_
    refine wq_iconst (pc := 27) dX3_drop_27 csti0 ?_
    refine wq_bipush (pc := 28) dX3_drop_28 cstb49 ?_
    refine tcq2272 (pc := 30) (As := [.ref (ad 15), .int (0 : Int32), .ref (ad 18), .int (0 : Int32), .int (49 : Int32)]) (st := []) rfl dX3_drop_30 rfl (Nat.le_of_ble_eq_true rfl) V (tw_kv (fun s4 V => ?_))
    refine wq_aload_n (pc := 33) dX3_drop_33 rfl rfl ?_
    refine wq_iload_n (pc := 34) dX3_drop_34 rfl rfl ?_
    refine tcq2286 (pc := 35) (As := [.int x1]) (st := []) rfl dX3_drop_35 rfl (Nat.le_of_ble_eq_true rfl) V (tw_kv (fun s5 V => ?_))
    refine wq_aload_n (pc := 38) dX3_drop_38 rfl rfl ?_
    refine wq_iconst (pc := 39) dX3_drop_39 csti1 ?_
    refine wq_iload_n (pc := 40) dX3_drop_40 rfl rfl ?_
    refine wq_bipush (pc := 41) dX3_drop_41 cstbm2 ?_
    refine wq_bipush (pc := 43) dX3_drop_43 cstbm2 ?_
    refine wq_bipush (pc := 45) dX3_drop_45 cstbm2 ?_
    refine tcq2275 (pc := 47) (As := [.int (1 : Int32), .int x1, .int (-2 : Int32), .int (-2 : Int32), .int (-2 : Int32)]) (st := []) rfl dX3_drop_47 rfl (Nat.le_of_ble_eq_true rfl) V (tw_ki (fun y7 s6 V => ?_))
    refine wq_zret (pc := 50) dX3_drop_50 rfl (tw_z V.1).1 ⟨_, _, rfl, rfl, V.2⟩
  · have V := V.2 c
    refine wq_aload_n (pc := 12) dX3_drop_12 rfl rfl ?_
    refine wq_iconst (pc := 13) dX3_drop_13 csti1 ?_
    refine tcq2131 (pc := 14) (As := [.int (1 : Int32)]) (st := []) rfl dX3_drop_14 rfl (Nat.le_of_ble_eq_true rfl) V (tw_ki (fun y9 s8 V => ?_))
    refine wq_zret (pc := 17) dX3_drop_17 rfl (tw_z V.1).1 ⟨_, _, rfl, rfl, V.2⟩
theorem vX3_goesAway_0 {G : wq_G} {l : Launch} {o : Nat} {ad : Nat → Nat} {h : wq_H} {d : Nat} {K : tw_S → Prop} (ok : tw_ok G o ad)  {x1 : Int32} {s : tw_S} (V : tw_T G l o ad h d mX3_goesAway (tw_qv G o ad h K) 2 [some (.ref o), none, some (.int x1), none] [] s) : tw_T G l o ad h d mX3_goesAway (tw_qv G o ad h K) 0 [some (.ref o), some (.int x1), none, none] [] s := by
  refine wq_iload_n (pc := 0) dX3_goesAway_0 rfl rfl ?_
  refine wq_istore_n (L' := [some (.ref o), some (.int x1), some (.int x1), none]) (pc := 1) dX3_goesAway_1 rfl (Nat.le_of_ble_eq_true rfl) rfl ?_
  exact wq_T.less V ⟨rfl, ⟨rfl, trivial⟩⟩
theorem vX3_goesAway_2 {G : wq_G} {l : Launch} {o : Nat} {ad : Nat → Nat} {h : wq_H} {d : Nat} {K : tw_S → Prop} (ok : tw_ok G o ad)  {x2 : Int32} {s : tw_S} (V : tw_ld s 15 (0 : Int32) (fun y1 => (y1 ≤ (x2 + (1 : Int32)) → tw_ld s 15 (0 : Int32) (fun y2 => tw_st s 15 (0 : Int32) (y2 - (1 : Int32)) (fun s3 => tw_ld s3 15 (0 : Int32) (fun y4 => tw_st s3 15 ((1 : Int32) + y4) (0 : Int32) (fun s5 => tw_st s5 15 ((9 : Int32) + y4) (0 : Int32) (fun s6 => tw_T G l o ad h d mX3_goesAway (tw_qv G o ad h K) 159 [some (.ref o), none, some (.int y4), some (.int (0 : Int32))] [] s6)))))) ∧ (¬ y1 ≤ (x2 + (1 : Int32)) → tw_ld s 15 (((1 : Int32) + x2) + (1 : Int32)) (fun y7 => tw_st s 15 ((1 : Int32) + x2) y7 (fun s8 => tw_ld s8 15 (((9 : Int32) + x2) + (1 : Int32)) (fun y9 => tw_st s8 15 ((9 : Int32) + x2) y9 (fun s10 => tw_T G l o ad h d mX3_goesAway (tw_qv G o ad h K) 54 [some (.ref o), none, some (.int x2), some (.int (0 : Int32))] [] s10))))))) : tw_T G l o ad h d mX3_goesAway (tw_qv G o ad h K) 2 [some (.ref o), none, some (.int x2), none] [] s := by
  refine wq_iload_n (pc := 2) dX3_goesAway_2 rfl rfl ?_
  refine wq_iconst (pc := 3) dX3_goesAway_3 csti1 ?_
  refine wq_iadd (pc := 4) dX3_goesAway_4 ?_
  refine wq_aload_n (pc := 5) dX3_goesAway_5 rfl rfl ?_
  refine tg15 (pc := 6) rfl dX3_goesAway_6 ?_
  refine wq_iconst (pc := 9) dX3_goesAway_9 csti0 ?_
  refine tw_iald' (pc := 10) ok mia15 dX3_goesAway_10 V (fun y1 V => ?_)
  refine wq_icmp_ge (pc := 11) (tgt := 121) dX3_goesAway_11 rfl (fun c => ?_) (fun c => ?_)
  · have V := V.1 c
    refine wq_aload_n (pc := 121) dX3_goesAway_121 rfl rfl ?_
    refine tg15 (pc := 122) rfl dX3_goesAway_122 ?_
    refine wq_iconst (pc := 125) dX3_goesAway_125 csti0 ?_
    refine wq_dup2 (pc := 126) dX3_goesAway_126 rfl rfl ?_
    refine tw_iald' (pc := 127) ok mia15 dX3_goesAway_127 V (fun y2 V => ?_)
    refine wq_iconst (pc := 128) dX3_goesAway_128 csti1 ?_
    refine wq_isub (pc := 129) dX3_goesAway_129 ?_
    refine tw_iast' (pc := 130) ok mia15 dX3_goesAway_130 V (fun s3 V => ?_)
    refine wq_aload_n (pc := 131) dX3_goesAway_131 rfl rfl ?_
    refine tg15 (pc := 132) rfl dX3_goesAway_132 ?_
    refine wq_iconst (pc := 135) dX3_goesAway_135 csti0 ?_
    refine tw_iald' (pc := 136) ok mia15 dX3_goesAway_136 V (fun y4 V => ?_)
    refine wq_istore_n (L' := [some (.ref o), none, some (.int y4), none]) (pc := 137) dX3_goesAway_137 rfl (Nat.le_of_ble_eq_true rfl) rfl ?_
    refine wq_aload_n (pc := 138) dX3_goesAway_138 rfl rfl ?_
    refine tg15 (pc := 139) rfl dX3_goesAway_139 ?_
    refine wq_iconst (pc := 142) dX3_goesAway_142 csti1 ?_
    refine wq_iload_n (pc := 143) dX3_goesAway_143 rfl rfl ?_
    refine wq_iadd (pc := 144) dX3_goesAway_144 ?_
    refine wq_iconst (pc := 145) dX3_goesAway_145 csti0 ?_
    refine tw_iast' (pc := 146) ok mia15 dX3_goesAway_146 V (fun s5 V => ?_)
    refine wq_aload_n (pc := 147) dX3_goesAway_147 rfl rfl ?_
    refine tg15 (pc := 148) rfl dX3_goesAway_148 ?_
    refine wq_bipush (pc := 151) dX3_goesAway_151 cstb9 ?_
    refine wq_iload_n (pc := 153) dX3_goesAway_153 rfl rfl ?_
    refine wq_iadd (pc := 154) dX3_goesAway_154 ?_
    refine wq_iconst (pc := 155) dX3_goesAway_155 csti0 ?_
    refine tw_iast' (pc := 156) ok mia15 dX3_goesAway_156 V (fun s6 V => ?_)
    refine wq_iconst (pc := 157) dX3_goesAway_157 csti0 ?_
    refine wq_istore_n (L' := [some (.ref o), none, some (.int y4), some (.int (0 : Int32))]) (pc := 158) dX3_goesAway_158 rfl (Nat.le_of_ble_eq_true rfl) rfl ?_
    exact V
  · have V := V.2 c
    refine wq_aload_n (pc := 14) dX3_goesAway_14 rfl rfl ?_
    refine tg15 (pc := 15) rfl dX3_goesAway_15 ?_
    refine wq_iconst (pc := 18) dX3_goesAway_18 csti1 ?_
    refine wq_iload_n (pc := 19) dX3_goesAway_19 rfl rfl ?_
    refine wq_iadd (pc := 20) dX3_goesAway_20 ?_
    refine wq_aload_n (pc := 21) dX3_goesAway_21 rfl rfl ?_
    refine tg15 (pc := 22) rfl dX3_goesAway_22 ?_
    refine wq_iconst (pc := 25) dX3_goesAway_25 csti1 ?_
    refine wq_iload_n (pc := 26) dX3_goesAway_26 rfl rfl ?_
    refine wq_iadd (pc := 27) dX3_goesAway_27 ?_
    refine wq_iconst (pc := 28) dX3_goesAway_28 csti1 ?_
    refine wq_iadd (pc := 29) dX3_goesAway_29 ?_
    refine tw_iald' (pc := 30) ok mia15 dX3_goesAway_30 V (fun y7 V => ?_)
    refine tw_iast' (pc := 31) ok mia15 dX3_goesAway_31 V (fun s8 V => ?_)
    refine wq_aload_n (pc := 32) dX3_goesAway_32 rfl rfl ?_
    refine tg15 (pc := 33) rfl dX3_goesAway_33 ?_
    refine wq_bipush (pc := 36) dX3_goesAway_36 cstb9 ?_
    refine wq_iload_n (pc := 38) dX3_goesAway_38 rfl rfl ?_
    refine wq_iadd (pc := 39) dX3_goesAway_39 ?_
    refine wq_aload_n (pc := 40) dX3_goesAway_40 rfl rfl ?_
    refine tg15 (pc := 41) rfl dX3_goesAway_41 ?_
    refine wq_bipush (pc := 44) dX3_goesAway_44 cstb9 ?_
    refine wq_iload_n (pc := 46) dX3_goesAway_46 rfl rfl ?_
    refine wq_iadd (pc := 47) dX3_goesAway_47 ?_
    refine wq_iconst (pc := 48) dX3_goesAway_48 csti1 ?_
    refine wq_iadd (pc := 49) dX3_goesAway_49 ?_
    refine tw_iald' (pc := 50) ok mia15 dX3_goesAway_50 V (fun y9 V => ?_)
    refine tw_iast' (pc := 51) ok mia15 dX3_goesAway_51 V (fun s10 V => ?_)
    refine wq_iconst (pc := 52) dX3_goesAway_52 csti0 ?_
    refine wq_istore_n (L' := [some (.ref o), none, some (.int x2), some (.int (0 : Int32))]) (pc := 53) dX3_goesAway_53 rfl (Nat.le_of_ble_eq_true rfl) rfl ?_
    exact V
theorem vX3_goesAway_54 {G : wq_G} {l : Launch} {o : Nat} {ad : Nat → Nat} {h : wq_H} {d : Nat} {K : tw_S → Prop} (ok : tw_ok G o ad)  {x2 : Int32} {x3 : Int32} {s : tw_S} (V : ((4 : Int32) ≤ x3 → tw_T G l o ad h d mX3_goesAway (tw_qv G o ad h K) 2 [some (.ref o), none, some (.int (x2 + (1 : Int32))), none] [] s) ∧ (¬ (4 : Int32) ≤ x3 → tw_ld s 15 ((((17 : Int32) + ((4 : Int32) * x2)) + (4 : Int32)) + x3) (fun y1 => tw_st s 15 (((17 : Int32) + ((4 : Int32) * x2)) + x3) y1 (fun s2 => tw_ld s2 17 ((((4 : Int32) * x2) + (4 : Int32)) + x3) (fun y3 => tw_st s2 17 (((4 : Int32) * x2) + x3) y3 (fun s4 => tw_T G l o ad h d mX3_goesAway (tw_qv G o ad h K) 54 [some (.ref o), none, some (.int x2), some (.int (x3 + (1 : Int32)))] [] s4)))))) : tw_T G l o ad h d mX3_goesAway (tw_qv G o ad h K) 54 [some (.ref o), none, some (.int x2), some (.int x3)] [] s := by
  refine wq_iload_n (pc := 54) dX3_goesAway_54 rfl rfl ?_
  refine wq_iconst (pc := 55) dX3_goesAway_55 csti4 ?_
  refine wq_icmp_ge (pc := 56) (tgt := 115) dX3_goesAway_56 rfl (fun c => ?_) (fun c => ?_)
  · have V := V.1 c
    refine wq_iinc (L' := [some (.ref o), none, some (.int (x2 + (1 : Int32))), some (.int x3)]) (pc := 115) dX3_goesAway_115 rfl (by rw [csti1]) (Nat.le_of_ble_eq_true rfl) rfl ?_
    refine wq_goto (pc := 118) (tgt := 2) dX3_goesAway_118 rfl ?_
    exact wq_T.less V ⟨rfl, ⟨rfl, trivial⟩⟩
  · have V := V.2 c
    refine wq_aload_n (pc := 59) dX3_goesAway_59 rfl rfl ?_
    refine tg15 (pc := 60) rfl dX3_goesAway_60 ?_
    refine wq_bipush (pc := 63) dX3_goesAway_63 cstb17 ?_
    refine wq_iconst (pc := 65) dX3_goesAway_65 csti4 ?_
    refine wq_iload_n (pc := 66) dX3_goesAway_66 rfl rfl ?_
    refine wq_imul (pc := 67) dX3_goesAway_67 ?_
    refine wq_iadd (pc := 68) dX3_goesAway_68 ?_
    refine wq_iload_n (pc := 69) dX3_goesAway_69 rfl rfl ?_
    refine wq_iadd (pc := 70) dX3_goesAway_70 ?_
    refine wq_aload_n (pc := 71) dX3_goesAway_71 rfl rfl ?_
    refine tg15 (pc := 72) rfl dX3_goesAway_72 ?_
    refine wq_bipush (pc := 75) dX3_goesAway_75 cstb17 ?_
    refine wq_iconst (pc := 77) dX3_goesAway_77 csti4 ?_
    refine wq_iload_n (pc := 78) dX3_goesAway_78 rfl rfl ?_
    refine wq_imul (pc := 79) dX3_goesAway_79 ?_
    refine wq_iadd (pc := 80) dX3_goesAway_80 ?_
    refine wq_iconst (pc := 81) dX3_goesAway_81 csti4 ?_
    refine wq_iadd (pc := 82) dX3_goesAway_82 ?_
    refine wq_iload_n (pc := 83) dX3_goesAway_83 rfl rfl ?_
    refine wq_iadd (pc := 84) dX3_goesAway_84 ?_
    refine tw_iald' (pc := 85) ok mia15 dX3_goesAway_85 V (fun y1 V => ?_)
    refine tw_iast' (pc := 86) ok mia15 dX3_goesAway_86 V (fun s2 V => ?_)
    refine wq_aload_n (pc := 87) dX3_goesAway_87 rfl rfl ?_
    refine tg17 (pc := 88) rfl dX3_goesAway_88 ?_
    refine wq_iconst (pc := 91) dX3_goesAway_91 csti4 ?_
    refine wq_iload_n (pc := 92) dX3_goesAway_92 rfl rfl ?_
    refine wq_imul (pc := 93) dX3_goesAway_93 ?_
    refine wq_iload_n (pc := 94) dX3_goesAway_94 rfl rfl ?_
    refine wq_iadd (pc := 95) dX3_goesAway_95 ?_
    refine wq_aload_n (pc := 96) dX3_goesAway_96 rfl rfl ?_
    refine tg17 (pc := 97) rfl dX3_goesAway_97 ?_
    refine wq_iconst (pc := 100) dX3_goesAway_100 csti4 ?_
    refine wq_iload_n (pc := 101) dX3_goesAway_101 rfl rfl ?_
    refine wq_imul (pc := 102) dX3_goesAway_102 ?_
    refine wq_iconst (pc := 103) dX3_goesAway_103 csti4 ?_
    refine wq_iadd (pc := 104) dX3_goesAway_104 ?_
    refine wq_iload_n (pc := 105) dX3_goesAway_105 rfl rfl ?_
    refine wq_iadd (pc := 106) dX3_goesAway_106 ?_
    refine tw_iald' (pc := 107) ok mia17 dX3_goesAway_107 V (fun y3 V => ?_)
    refine tw_iast' (pc := 108) ok mia17 dX3_goesAway_108 V (fun s4 V => ?_)
    refine wq_iinc (L' := [some (.ref o), none, some (.int x2), some (.int (x3 + (1 : Int32)))]) (pc := 109) dX3_goesAway_109 rfl (by rw [csti1]) (Nat.le_of_ble_eq_true rfl) rfl ?_
    refine wq_goto (pc := 112) (tgt := 54) dX3_goesAway_112 rfl ?_
    exact V
theorem vX3_goesAway_159 {G : wq_G} {l : Launch} {o : Nat} {ad : Nat → Nat} {h : wq_H} {d : Nat} {K : tw_S → Prop} (ok : tw_ok G o ad)  {x2 : Int32} {x3 : Int32} {s : tw_S} (V : ((4 : Int32) ≤ x3 → K s) ∧ (¬ (4 : Int32) ≤ x3 → tw_st s 15 (((17 : Int32) + ((4 : Int32) * x2)) + x3) (0 : Int32) (fun s1 => tw_st s1 17 (((4 : Int32) * x2) + x3) (0 : Int32) (fun s2 => tw_T G l o ad h d mX3_goesAway (tw_qv G o ad h K) 159 [some (.ref o), none, some (.int x2), some (.int (x3 + (1 : Int32)))] [] s2)))) : tw_T G l o ad h d mX3_goesAway (tw_qv G o ad h K) 159 [some (.ref o), none, some (.int x2), some (.int x3)] [] s := by
  refine wq_iload_n (pc := 159) dX3_goesAway_159 rfl rfl ?_
  refine wq_iconst (pc := 160) dX3_goesAway_160 csti4 ?_
  refine wq_icmp_ge (pc := 161) (tgt := 195) dX3_goesAway_161 rfl (fun c => ?_) (fun c => ?_)
  · have V := V.1 c
    refine wq_vret (pc := 195) dX3_goesAway_195 rfl ⟨_, rfl, rfl, V⟩
  · have V := V.2 c
    refine wq_aload_n (pc := 164) dX3_goesAway_164 rfl rfl ?_
    refine tg15 (pc := 165) rfl dX3_goesAway_165 ?_
    refine wq_bipush (pc := 168) dX3_goesAway_168 cstb17 ?_
    refine wq_iconst (pc := 170) dX3_goesAway_170 csti4 ?_
    refine wq_iload_n (pc := 171) dX3_goesAway_171 rfl rfl ?_
    refine wq_imul (pc := 172) dX3_goesAway_172 ?_
    refine wq_iadd (pc := 173) dX3_goesAway_173 ?_
    refine wq_iload_n (pc := 174) dX3_goesAway_174 rfl rfl ?_
    refine wq_iadd (pc := 175) dX3_goesAway_175 ?_
    refine wq_iconst (pc := 176) dX3_goesAway_176 csti0 ?_
    refine tw_iast' (pc := 177) ok mia15 dX3_goesAway_177 V (fun s1 V => ?_)
    refine wq_aload_n (pc := 178) dX3_goesAway_178 rfl rfl ?_
    refine tg17 (pc := 179) rfl dX3_goesAway_179 ?_
    refine wq_iconst (pc := 182) dX3_goesAway_182 csti4 ?_
    refine wq_iload_n (pc := 183) dX3_goesAway_183 rfl rfl ?_
    refine wq_imul (pc := 184) dX3_goesAway_184 ?_
    refine wq_iload_n (pc := 185) dX3_goesAway_185 rfl rfl ?_
    refine wq_iadd (pc := 186) dX3_goesAway_186 ?_
    refine wq_iconst (pc := 187) dX3_goesAway_187 csti0 ?_
    refine tw_iast' (pc := 188) ok mia17 dX3_goesAway_188 V (fun s2 V => ?_)
    refine wq_iinc (L' := [some (.ref o), none, some (.int x2), some (.int (x3 + (1 : Int32)))]) (pc := 189) dX3_goesAway_189 rfl (by rw [csti1]) (Nat.le_of_ble_eq_true rfl) rfl ?_
    refine wq_goto (pc := 192) (tgt := 159) dX3_goesAway_192 rfl ?_
    exact V
theorem vX3_forget_0 {G : wq_G} {l : Launch} {o : Nat} {ad : Nat → Nat} {h : wq_H} {d : Nat} {K : Int32 → tw_S → Prop} (ok : tw_ok G o ad)  {x1 : Int32} {s : tw_S} (V : tw_cv G l o ad h d mX3_good [.ref o] s (fun s1 => tw_ci G l o ad h d mX3_isLook [.ref o, .int x1] s1 (fun y3 s2 => (¬ y3 = 0 → tw_T G l o ad h d mX3_forget (tw_qi G o ad h K) 22 [some (.ref o), some (.int x1), some (.int (0 : Int32)), some (.int (0 : Int32)), none, none, none, none, none] [] s2) ∧ (y3 = 0 → tw_ci G l o ad h d mX3_isNot [.ref o, .int (1 : Int32)] s2 (fun y5 s4 => (y5 = 0 ∨ y5 = 1) ∧ K y5 s4))))) : tw_T G l o ad h d mX3_forget (tw_qi G o ad h K) 0 [some (.ref o), some (.int x1), none, none, none, none, none, none, none] [] s := by
  refine wq_aload_n (pc := 0) dX3_forget_0 rfl rfl ?_
  refine tcq1836 (pc := 1) (As := []) (st := []) rfl dX3_forget_1 rfl (Nat.le_of_ble_eq_true rfl) V (tw_kv (fun s1 V => ?_))
  refine wq_aload_n (pc := 4) dX3_forget_4 rfl rfl ?_
  refine wq_iload_n (pc := 5) dX3_forget_5 rfl rfl ?_
  refine tcq2032 (pc := 6) (As := [.int x1]) (st := []) rfl dX3_forget_6 rfl (Nat.le_of_ble_eq_true rfl) V (tw_ki (fun y3 s2 V => ?_))
  refine wq_if_ne (pc := 9) (tgt := 18) dX3_forget_9 rfl (fun c => ?_) (fun c => ?_)
  · have V := V.1 c
    refine wq_iconst (pc := 18) dX3_forget_18 csti0 ?_
    refine wq_istore_n (L' := [some (.ref o), some (.int x1), some (.int (0 : Int32)), none, none, none, none, none, none]) (pc := 19) dX3_forget_19 rfl (Nat.le_of_ble_eq_true rfl) rfl ?_
    refine wq_iconst (pc := 20) dX3_forget_20 csti0 ?_
    refine wq_istore_n (L' := [some (.ref o), some (.int x1), some (.int (0 : Int32)), some (.int (0 : Int32)), none, none, none, none, none]) (pc := 21) dX3_forget_21 rfl (Nat.le_of_ble_eq_true rfl) rfl ?_
    exact V
  · have V := V.2 c
    refine wq_aload_n (pc := 12) dX3_forget_12 rfl rfl ?_
    refine wq_iconst (pc := 13) dX3_forget_13 csti1 ?_
    refine tcq2131 (pc := 14) (As := [.int (1 : Int32)]) (st := []) rfl dX3_forget_14 rfl (Nat.le_of_ble_eq_true rfl) V (tw_ki (fun y5 s4 V => ?_))
    refine wq_zret (pc := 17) dX3_forget_17 rfl (tw_z V.1).1 ⟨_, _, rfl, rfl, V.2⟩
theorem vX3_forget_22 {G : wq_G} {l : Launch} {o : Nat} {ad : Nat → Nat} {h : wq_H} {d : Nat} {K : Int32 → tw_S → Prop} (ok : tw_ok G o ad)  {x1 : Int32} {x2 : Int32} {x3 : Int32} {s : tw_S} (V : tw_ld s 15 (0 : Int32) (fun y1 => (y1 ≤ x3 → (¬ x2 = 0 → tw_cv G l o ad h d mX3_copy [.ref (ad 15), .int (0 : Int32), .ref (ad 18), .int (0 : Int32), .int (49 : Int32)] s (fun s2 => tw_ld s2 15 (0 : Int32) (fun y3 => tw_T G l o ad h d mX3_forget (tw_qi G o ad h K) 107 [some (.ref o), some (.int x1), none, some (.int (y3 - (1 : Int32))), none, none, none, none, none] [] s2))) ∧ (x2 = 0 → tw_ci G l o ad h d mX3_isNot [.ref o, .int (5 : Int32)] s (fun y5 s4 => (y5 = 0 ∨ y5 = 1) ∧ K y5 s4))) ∧ (¬ y1 ≤ x3 → (¬ x2 = 0 → tw_T G l o ad h d mX3_forget (tw_qi G o ad h K) 22 [some (.ref o), some (.int x1), some (.int (1 : Int32)), some (.int (x3 + (1 : Int32))), none, none, none, none, none] [] s) ∧ (x2 = 0 → tw_ld s 15 ((1 : Int32) + x3) (fun y6 => (y6 = x1 → tw_T G l o ad h d mX3_forget (tw_qi G o ad h K) 22 [some (.ref o), some (.int x1), some (.int (1 : Int32)), some (.int (x3 + (1 : Int32))), none, none, none, none, none] [] s) ∧ (¬ y6 = x1 → tw_ld s 15 ((9 : Int32) + x3) (fun y7 => (¬ y7 = x1 → tw_T G l o ad h d mX3_forget (tw_qi G o ad h K) 22 [some (.ref o), some (.int x1), some (.int (0 : Int32)), some (.int (x3 + (1 : Int32))), none, none, none, none, none] [] s) ∧ (y7 = x1 → tw_T G l o ad h d mX3_forget (tw_qi G o ad h K) 22 [some (.ref o), some (.int x1), some (.int (1 : Int32)), some (.int (x3 + (1 : Int32))), none, none, none, none, none] [] s)))))))) : tw_T G l o ad h d mX3_forget (tw_qi G o ad h K) 22 [some (.ref o), some (.int x1), some (.int x2), some (.int x3), none, none, none, none, none] [] s := by
  refine wq_iload_n (pc := 22) dX3_forget_22 rfl rfl ?_
  refine wq_aload_n (pc := 23) dX3_forget_23 rfl rfl ?_
  refine tg15 (pc := 24) rfl dX3_forget_24 ?_
  refine wq_iconst (pc := 27) dX3_forget_27 csti0 ?_
  refine tw_iald' (pc := 28) ok mia15 dX3_forget_28 V (fun y1 V => ?_)
  refine wq_icmp_ge (pc := 29) (tgt := 73) dX3_forget_29 rfl (fun c => ?_) (fun c => ?_)
  · have V := V.1 c
    refine wq_iload_n (pc := 73) dX3_forget_73 rfl rfl ?_
    refine wq_if_ne (pc := 74) (tgt := 83) dX3_forget_74 rfl (fun c => ?_) (fun c => ?_)
    · have V := V.1 c
      refine wq_aload_n (pc := 83) dX3_forget_83 rfl rfl ?_
      refine tg15 (pc := 84) rfl dX3_forget_84 ?_
      refine wq_iconst (pc := 87) dX3_forget_87 csti0 ?_
      refine wq_aload_n (pc := 88) dX3_forget_88 rfl rfl ?_
      refine tg18 (pc := 89) rfl dX3_forget_89 ?_
      refine wq_iconst (pc := 92) dX3_forget_92 csti0 ?_
      refine wq_bipush (pc := 93) dX3_forget_93 cstb49 ?_
      refine tcq2272 (pc := 95) (As := [.ref (ad 15), .int (0 : Int32), .ref (ad 18), .int (0 : Int32), .int (49 : Int32)]) (st := []) rfl dX3_forget_95 rfl (Nat.le_of_ble_eq_true rfl) V (tw_kv (fun s2 V => ?_))
      refine wq_aload_n (pc := 98) dX3_forget_98 rfl rfl ?_
      refine tg15 (pc := 99) rfl dX3_forget_99 ?_
      refine wq_iconst (pc := 102) dX3_forget_102 csti0 ?_
      refine tw_iald' (pc := 103) ok mia15 dX3_forget_103 V (fun y3 V => ?_)
      refine wq_iconst (pc := 104) dX3_forget_104 csti1 ?_
      refine wq_isub (pc := 105) dX3_forget_105 ?_
      refine wq_istore_n (L' := [some (.ref o), some (.int x1), some (.int x2), some (.int (y3 - (1 : Int32))), none, none, none, none, none]) (pc := 106) dX3_forget_106 rfl (Nat.le_of_ble_eq_true rfl) rfl ?_
      exact wq_T.less V ⟨rfl, ⟨rfl, ⟨rfl, trivial⟩⟩⟩
    · have V := V.2 c
      refine wq_aload_n (pc := 77) dX3_forget_77 rfl rfl ?_
      refine wq_iconst (pc := 78) dX3_forget_78 csti5 ?_
      refine tcq2131 (pc := 79) (As := [.int (5 : Int32)]) (st := []) rfl dX3_forget_79 rfl (Nat.le_of_ble_eq_true rfl) V (tw_ki (fun y5 s4 V => ?_))
      refine wq_zret (pc := 82) dX3_forget_82 rfl (tw_z V.1).1 ⟨_, _, rfl, rfl, V.2⟩
  · have V := V.2 c
    refine wq_iload_n (pc := 32) dX3_forget_32 rfl rfl ?_
    refine wq_if_ne (pc := 33) (tgt := 61) dX3_forget_33 rfl (fun c => ?_) (fun c => ?_)
    · have V := V.1 c
      refine wq_iconst (pc := 61) dX3_forget_61 csti1 ?_
      refine wq_goto (pc := 62) (tgt := 66) dX3_forget_62 rfl ?_
      refine wq_istore_n (L' := [some (.ref o), some (.int x1), some (.int (1 : Int32)), some (.int x3), none, none, none, none, none]) (pc := 66) dX3_forget_66 rfl (Nat.le_of_ble_eq_true rfl) rfl ?_
      refine wq_iinc (L' := [some (.ref o), some (.int x1), some (.int (1 : Int32)), some (.int (x3 + (1 : Int32))), none, none, none, none, none]) (pc := 67) dX3_forget_67 rfl (by rw [csti1]) (Nat.le_of_ble_eq_true rfl) rfl ?_
      refine wq_goto (pc := 70) (tgt := 22) dX3_forget_70 rfl ?_
      exact V
    · have V := V.2 c
      refine wq_aload_n (pc := 36) dX3_forget_36 rfl rfl ?_
      refine tg15 (pc := 37) rfl dX3_forget_37 ?_
      refine wq_iconst (pc := 40) dX3_forget_40 csti1 ?_
      refine wq_iload_n (pc := 41) dX3_forget_41 rfl rfl ?_
      refine wq_iadd (pc := 42) dX3_forget_42 ?_
      refine tw_iald' (pc := 43) ok mia15 dX3_forget_43 V (fun y6 V => ?_)
      refine wq_iload_n (pc := 44) dX3_forget_44 rfl rfl ?_
      refine wq_icmp_eq (pc := 45) (tgt := 61) dX3_forget_45 rfl (fun c => ?_) (fun c => ?_)
      · have V := V.1 c
        refine wq_iconst (pc := 61) dX3_forget_61 csti1 ?_
        refine wq_goto (pc := 62) (tgt := 66) dX3_forget_62 rfl ?_
        refine wq_istore_n (L' := [some (.ref o), some (.int x1), some (.int (1 : Int32)), some (.int x3), none, none, none, none, none]) (pc := 66) dX3_forget_66 rfl (Nat.le_of_ble_eq_true rfl) rfl ?_
        refine wq_iinc (L' := [some (.ref o), some (.int x1), some (.int (1 : Int32)), some (.int (x3 + (1 : Int32))), none, none, none, none, none]) (pc := 67) dX3_forget_67 rfl (by rw [csti1]) (Nat.le_of_ble_eq_true rfl) rfl ?_
        refine wq_goto (pc := 70) (tgt := 22) dX3_forget_70 rfl ?_
        exact V
      · have V := V.2 c
        refine wq_aload_n (pc := 48) dX3_forget_48 rfl rfl ?_
        refine tg15 (pc := 49) rfl dX3_forget_49 ?_
        refine wq_bipush (pc := 52) dX3_forget_52 cstb9 ?_
        refine wq_iload_n (pc := 54) dX3_forget_54 rfl rfl ?_
        refine wq_iadd (pc := 55) dX3_forget_55 ?_
        refine tw_iald' (pc := 56) ok mia15 dX3_forget_56 V (fun y7 V => ?_)
        refine wq_iload_n (pc := 57) dX3_forget_57 rfl rfl ?_
        refine wq_icmp_ne (pc := 58) (tgt := 65) dX3_forget_58 rfl (fun c => ?_) (fun c => ?_)
        · have V := V.1 c
          refine wq_iconst (pc := 65) dX3_forget_65 csti0 ?_
          refine wq_istore_n (L' := [some (.ref o), some (.int x1), some (.int (0 : Int32)), some (.int x3), none, none, none, none, none]) (pc := 66) dX3_forget_66 rfl (Nat.le_of_ble_eq_true rfl) rfl ?_
          refine wq_iinc (L' := [some (.ref o), some (.int x1), some (.int (0 : Int32)), some (.int (x3 + (1 : Int32))), none, none, none, none, none]) (pc := 67) dX3_forget_67 rfl (by rw [csti1]) (Nat.le_of_ble_eq_true rfl) rfl ?_
          refine wq_goto (pc := 70) (tgt := 22) dX3_forget_70 rfl ?_
          exact V
        · have V := V.2 c
          refine wq_iconst (pc := 61) dX3_forget_61 csti1 ?_
          refine wq_goto (pc := 62) (tgt := 66) dX3_forget_62 rfl ?_
          refine wq_istore_n (L' := [some (.ref o), some (.int x1), some (.int (1 : Int32)), some (.int x3), none, none, none, none, none]) (pc := 66) dX3_forget_66 rfl (Nat.le_of_ble_eq_true rfl) rfl ?_
          refine wq_iinc (L' := [some (.ref o), some (.int x1), some (.int (1 : Int32)), some (.int (x3 + (1 : Int32))), none, none, none, none, none]) (pc := 67) dX3_forget_67 rfl (by rw [csti1]) (Nat.le_of_ble_eq_true rfl) rfl ?_
          refine wq_goto (pc := 70) (tgt := 22) dX3_forget_70 rfl ?_
          exact V
theorem vX3_forget_107 {G : wq_G} {l : Launch} {o : Nat} {ad : Nat → Nat} {h : wq_H} {d : Nat} {K : Int32 → tw_S → Prop} (ok : tw_ok G o ad)  {x1 : Int32} {x3 : Int32} {s : tw_S} (V : (x3 < 0 → tw_ci G l o ad h d mX3_did [.ref o, .int (2 : Int32), .int x1, .int (-2 : Int32), .int (-2 : Int32), .int (-2 : Int32)] s (fun y2 s1 => (y2 = 0 ∨ y2 = 1) ∧ K y2 s1)) ∧ (¬ x3 < 0 → tw_ld s 15 ((1 : Int32) + x3) (fun y3 => (¬ y3 = x1 → (¬ (0 : Int32) = 0 → tw_T G l o ad h d mX3_forget (tw_qi G o ad h K) 151 [some (.ref o), some (.int x1), none, some (.int x3), some (.int (0 : Int32)), none, none, none, none] [] s) ∧ ((0 : Int32) = 0 → tw_ld s 15 ((9 : Int32) + x3) (fun y4 => (y4 = x1 → tw_T G l o ad h d mX3_forget (tw_qi G o ad h K) 151 [some (.ref o), some (.int x1), none, some (.int x3), some (.int (0 : Int32)), none, none, none, none] [] s) ∧ (¬ y4 = x1 → tw_T G l o ad h d mX3_forget (tw_qi G o ad h K) 107 [some (.ref o), some (.int x1), none, some (.int (x3 + (-1 : Int32))), none, none, none, none, none] [] s)))) ∧ (y3 = x1 → (¬ (1 : Int32) = 0 → tw_T G l o ad h d mX3_forget (tw_qi G o ad h K) 151 [some (.ref o), some (.int x1), none, some (.int x3), some (.int (1 : Int32)), none, none, none, none] [] s) ∧ ((1 : Int32) = 0 → tw_ld s 15 ((9 : Int32) + x3) (fun y5 => (y5 = x1 → tw_T G l o ad h d mX3_forget (tw_qi G o ad h K) 151 [some (.ref o), some (.int x1), none, some (.int x3), some (.int (1 : Int32)), none, none, none, none] [] s) ∧ (¬ y5 = x1 → tw_T G l o ad h d mX3_forget (tw_qi G o ad h K) 107 [some (.ref o), some (.int x1), none, some (.int (x3 + (-1 : Int32))), none, none, none, none, none] [] s))))))) : tw_T G l o ad h d mX3_forget (tw_qi G o ad h K) 107 [some (.ref o), some (.int x1), none, some (.int x3), none, none, none, none, none] [] s := by
  refine wq_iload_n (pc := 107) dX3_forget_107 rfl rfl ?_
  refine wq_if_lt (pc := 108) (tgt := 390) dX3_forget_108 rfl (fun c => ?_) (fun c => ?_)
  · have V := V.1 c
    refine wq_aload_n (pc := 390) dX3_forget_390 rfl rfl ?_
    refine wq_iconst (pc := 391) dX3_forget_391 csti2 ?_
    refine wq_iload_n (pc := 392) dX3_forget_392 rfl rfl ?_
    refine wq_bipush (pc := 393) dX3_forget_393 cstbm2 ?_
    refine wq_bipush (pc := 395) dX3_forget_395 cstbm2 ?_
    refine wq_bipush (pc := 397) dX3_forget_397 cstbm2 ?_
    refine tcq2275 (pc := 399) (As := [.int (2 : Int32), .int x1, .int (-2 : Int32), .int (-2 : Int32), .int (-2 : Int32)]) (st := []) rfl dX3_forget_399 rfl (Nat.le_of_ble_eq_true rfl) V (tw_ki (fun y2 s1 V => ?_))
    refine wq_zret (pc := 402) dX3_forget_402 rfl (tw_z V.1).1 ⟨_, _, rfl, rfl, V.2⟩
  · have V := V.2 c
    refine wq_aload_n (pc := 111) dX3_forget_111 rfl rfl ?_
    refine tg15 (pc := 112) rfl dX3_forget_112 ?_
    refine wq_iconst (pc := 115) dX3_forget_115 csti1 ?_
    refine wq_iload_n (pc := 116) dX3_forget_116 rfl rfl ?_
    refine wq_iadd (pc := 117) dX3_forget_117 ?_
    refine tw_iald' (pc := 118) ok mia15 dX3_forget_118 V (fun y3 V => ?_)
    refine wq_iload_n (pc := 119) dX3_forget_119 rfl rfl ?_
    refine wq_icmp_ne (pc := 120) (tgt := 127) dX3_forget_120 rfl (fun c => ?_) (fun c => ?_)
    · have V := V.1 c
      refine wq_iconst (pc := 127) dX3_forget_127 csti0 ?_
      refine wq_istore (L' := [some (.ref o), some (.int x1), none, some (.int x3), some (.int (0 : Int32)), none, none, none, none]) (pc := 128) dX3_forget_128 (Nat.le_of_ble_eq_true rfl) rfl ?_
      refine wq_iload (pc := 130) dX3_forget_130 rfl ?_
      refine wq_if_ne (pc := 132) (tgt := 151) dX3_forget_132 rfl (fun c => ?_) (fun c => ?_)
      · have V := V.1 c
        exact V
      · have V := V.2 c
        refine wq_aload_n (pc := 135) dX3_forget_135 rfl rfl ?_
        refine tg15 (pc := 136) rfl dX3_forget_136 ?_
        refine wq_bipush (pc := 139) dX3_forget_139 cstb9 ?_
        refine wq_iload_n (pc := 141) dX3_forget_141 rfl rfl ?_
        refine wq_iadd (pc := 142) dX3_forget_142 ?_
        refine tw_iald' (pc := 143) ok mia15 dX3_forget_143 V (fun y4 V => ?_)
        refine wq_iload_n (pc := 144) dX3_forget_144 rfl rfl ?_
        refine wq_icmp_eq (pc := 145) (tgt := 151) dX3_forget_145 rfl (fun c => ?_) (fun c => ?_)
        · have V := V.1 c
          exact V
        · have V := V.2 c
          refine wq_goto (pc := 148) (tgt := 384) dX3_forget_148 rfl ?_
          refine wq_iinc (L' := [some (.ref o), some (.int x1), none, some (.int (x3 + (-1 : Int32))), some (.int (0 : Int32)), none, none, none, none]) (pc := 384) dX3_forget_384 rfl (by rw [cstim1]) (Nat.le_of_ble_eq_true rfl) rfl ?_
          refine wq_goto (pc := 387) (tgt := 107) dX3_forget_387 rfl ?_
          exact wq_T.less V ⟨rfl, ⟨rfl, ⟨rfl, trivial⟩⟩⟩
    · have V := V.2 c
      refine wq_iconst (pc := 123) dX3_forget_123 csti1 ?_
      refine wq_goto (pc := 124) (tgt := 128) dX3_forget_124 rfl ?_
      refine wq_istore (L' := [some (.ref o), some (.int x1), none, some (.int x3), some (.int (1 : Int32)), none, none, none, none]) (pc := 128) dX3_forget_128 (Nat.le_of_ble_eq_true rfl) rfl ?_
      refine wq_iload (pc := 130) dX3_forget_130 rfl ?_
      refine wq_if_ne (pc := 132) (tgt := 151) dX3_forget_132 rfl (fun c => ?_) (fun c => ?_)
      · have V := V.1 c
        exact V
      · have V := V.2 c
        refine wq_aload_n (pc := 135) dX3_forget_135 rfl rfl ?_
        refine tg15 (pc := 136) rfl dX3_forget_136 ?_
        refine wq_bipush (pc := 139) dX3_forget_139 cstb9 ?_
        refine wq_iload_n (pc := 141) dX3_forget_141 rfl rfl ?_
        refine wq_iadd (pc := 142) dX3_forget_142 ?_
        refine tw_iald' (pc := 143) ok mia15 dX3_forget_143 V (fun y5 V => ?_)
        refine wq_iload_n (pc := 144) dX3_forget_144 rfl rfl ?_
        refine wq_icmp_eq (pc := 145) (tgt := 151) dX3_forget_145 rfl (fun c => ?_) (fun c => ?_)
        · have V := V.1 c
          exact V
        · have V := V.2 c
          refine wq_goto (pc := 148) (tgt := 384) dX3_forget_148 rfl ?_
          refine wq_iinc (L' := [some (.ref o), some (.int x1), none, some (.int (x3 + (-1 : Int32))), some (.int (1 : Int32)), none, none, none, none]) (pc := 384) dX3_forget_384 rfl (by rw [cstim1]) (Nat.le_of_ble_eq_true rfl) rfl ?_
          refine wq_goto (pc := 387) (tgt := 107) dX3_forget_387 rfl ?_
          exact wq_T.less V ⟨rfl, ⟨rfl, ⟨rfl, trivial⟩⟩⟩
theorem vX3_forget_151 {G : wq_G} {l : Launch} {o : Nat} {ad : Nat → Nat} {h : wq_H} {d : Nat} {K : Int32 → tw_S → Prop} (ok : tw_ok G o ad)  {x1 : Int32} {x3 : Int32} {x4 : Int32} {s : tw_S} (V : tw_ld s 15 ((9 : Int32) + x3) (fun y1 => (¬ y1 = (-2 : Int32) → (x4 = 0 → tw_ld s 15 ((17 : Int32) + ((4 : Int32) * x3)) (fun y2 => tw_ld s 15 (((17 : Int32) + ((4 : Int32) * x3)) + (1 : Int32)) (fun y3 => tw_T G l o ad h d mX3_forget (tw_qi G o ad h K) 223 [some (.ref o), some (.int x1), none, some (.int x3), some (.int x4), some (.int ((17 : Int32) + ((4 : Int32) * x3))), none, none, none] [.int (y2 + y3)] s))) ∧ (¬ x4 = 0 → tw_ld s 15 ((17 : Int32) + ((4 : Int32) * x3)) (fun y4 => tw_ld s 15 (((17 : Int32) + ((4 : Int32) * x3)) + (2 : Int32)) (fun y5 => tw_T G l o ad h d mX3_forget (tw_qi G o ad h K) 223 [some (.ref o), some (.int x1), none, some (.int x3), some (.int x4), some (.int ((17 : Int32) + ((4 : Int32) * x3))), none, none, none] [.int (y4 + y5)] s)))) ∧ (y1 = (-2 : Int32) → tw_cv G l o ad h d mX3_goesAway [.ref o, .int x3] s (fun s6 => tw_T G l o ad h d mX3_forget (tw_qi G o ad h K) 107 [some (.ref o), some (.int x1), none, some (.int (x3 + (-1 : Int32))), none, none, none, none, none] [] s6)))) : tw_T G l o ad h d mX3_forget (tw_qi G o ad h K) 151 [some (.ref o), some (.int x1), none, some (.int x3), some (.int x4), none, none, none, none] [] s := by
  refine wq_aload_n (pc := 151) dX3_forget_151 rfl rfl ?_
  refine tg15 (pc := 152) rfl dX3_forget_152 ?_
  refine wq_bipush (pc := 155) dX3_forget_155 cstb9 ?_
  refine wq_iload_n (pc := 157) dX3_forget_157 rfl rfl ?_
  refine wq_iadd (pc := 158) dX3_forget_158 ?_
  refine tw_iald' (pc := 159) ok mia15 dX3_forget_159 V (fun y1 V => ?_)
  refine wq_bipush (pc := 160) dX3_forget_160 cstbm2 ?_
  refine wq_icmp_ne (pc := 162) (tgt := 173) dX3_forget_162 rfl (fun c => ?_) (fun c => ?_)
  · have V := V.1 c
    refine wq_bipush (pc := 173) dX3_forget_173 cstb17 ?_
    refine wq_iconst (pc := 175) dX3_forget_175 csti4 ?_
    refine wq_iload_n (pc := 176) dX3_forget_176 rfl rfl ?_
    refine wq_imul (pc := 177) dX3_forget_177 ?_
    refine wq_iadd (pc := 178) dX3_forget_178 ?_
    refine wq_istore (L' := [some (.ref o), some (.int x1), none, some (.int x3), some (.int x4), some (.int ((17 : Int32) + ((4 : Int32) * x3))), none, none, none]) (pc := 179) dX3_forget_179 (Nat.le_of_ble_eq_true rfl) rfl ?_
    refine wq_iload (pc := 181) dX3_forget_181 rfl ?_
    refine wq_if_eq (pc := 183) (tgt := 206) dX3_forget_183 rfl (fun c => ?_) (fun c => ?_)
    · have V := V.1 c
      refine wq_aload_n (pc := 206) dX3_forget_206 rfl rfl ?_
      refine tg15 (pc := 207) rfl dX3_forget_207 ?_
      refine wq_iload (pc := 210) dX3_forget_210 rfl ?_
      refine tw_iald' (pc := 212) ok mia15 dX3_forget_212 V (fun y2 V => ?_)
      refine wq_aload_n (pc := 213) dX3_forget_213 rfl rfl ?_
      refine tg15 (pc := 214) rfl dX3_forget_214 ?_
      refine wq_iload (pc := 217) dX3_forget_217 rfl ?_
      refine wq_iconst (pc := 219) dX3_forget_219 csti1 ?_
      refine wq_iadd (pc := 220) dX3_forget_220 ?_
      refine tw_iald' (pc := 221) ok mia15 dX3_forget_221 V (fun y3 V => ?_)
      refine wq_iadd (pc := 222) dX3_forget_222 ?_
      exact V
    · have V := V.2 c
      refine wq_aload_n (pc := 186) dX3_forget_186 rfl rfl ?_
      refine tg15 (pc := 187) rfl dX3_forget_187 ?_
      refine wq_iload (pc := 190) dX3_forget_190 rfl ?_
      refine tw_iald' (pc := 192) ok mia15 dX3_forget_192 V (fun y4 V => ?_)
      refine wq_aload_n (pc := 193) dX3_forget_193 rfl rfl ?_
      refine tg15 (pc := 194) rfl dX3_forget_194 ?_
      refine wq_iload (pc := 197) dX3_forget_197 rfl ?_
      refine wq_iconst (pc := 199) dX3_forget_199 csti2 ?_
      refine wq_iadd (pc := 200) dX3_forget_200 ?_
      refine tw_iald' (pc := 201) ok mia15 dX3_forget_201 V (fun y5 V => ?_)
      refine wq_iadd (pc := 202) dX3_forget_202 ?_
      refine wq_goto (pc := 203) (tgt := 223) dX3_forget_203 rfl ?_
      exact V
  · have V := V.2 c
    refine wq_aload_n (pc := 165) dX3_forget_165 rfl rfl ?_
    refine wq_iload_n (pc := 166) dX3_forget_166 rfl rfl ?_
    refine tcq2286 (pc := 167) (As := [.int x3]) (st := []) rfl dX3_forget_167 rfl (Nat.le_of_ble_eq_true rfl) V (tw_kv (fun s6 V => ?_))
    refine wq_goto (pc := 170) (tgt := 384) dX3_forget_170 rfl ?_
    refine wq_iinc (L' := [some (.ref o), some (.int x1), none, some (.int (x3 + (-1 : Int32))), some (.int x4), none, none, none, none]) (pc := 384) dX3_forget_384 rfl (by rw [cstim1]) (Nat.le_of_ble_eq_true rfl) rfl ?_
    refine wq_goto (pc := 387) (tgt := 107) dX3_forget_387 rfl ?_
    exact wq_T.less V ⟨rfl, ⟨rfl, ⟨rfl, trivial⟩⟩⟩
theorem vX3_forget_223 {G : wq_G} {l : Launch} {o : Nat} {ad : Nat → Nat} {h : wq_H} {d : Nat} {K : Int32 → tw_S → Prop} (ok : tw_ok G o ad)  {x1 : Int32} {x3 : Int32} {x4 : Int32} {x5 : Int32} {z0 : Int32} {s : tw_S} (V : (x4 = 0 → tw_ld s 15 (x5 + (2 : Int32)) (fun y1 => tw_ld s 15 (x5 + (3 : Int32)) (fun y2 => (x4 = 0 → tw_ld s 15 ((1 : Int32) + x3) (fun y3 => tw_T G l o ad h d mX3_forget (tw_qi G o ad h K) 305 [some (.ref o), some (.int x1), none, some (.int x3), none, some (.int x5), some (.int z0), some (.int (y1 + y2)), none] [.int y3, .int ((1 : Int32) + x3), .ref (ad 15)] s)) ∧ (¬ x4 = 0 → tw_ld s 15 ((9 : Int32) + x3) (fun y4 => tw_T G l o ad h d mX3_forget (tw_qi G o ad h K) 305 [some (.ref o), some (.int x1), none, some (.int x3), none, some (.int x5), some (.int z0), some (.int (y1 + y2)), none] [.int y4, .int ((1 : Int32) + x3), .ref (ad 15)] s))))) ∧ (¬ x4 = 0 → tw_ld s 15 (x5 + (1 : Int32)) (fun y5 => tw_ld s 15 (x5 + (3 : Int32)) (fun y6 => (x4 = 0 → tw_ld s 15 ((1 : Int32) + x3) (fun y7 => tw_T G l o ad h d mX3_forget (tw_qi G o ad h K) 305 [some (.ref o), some (.int x1), none, some (.int x3), none, some (.int x5), some (.int z0), some (.int (y5 + y6)), none] [.int y7, .int ((1 : Int32) + x3), .ref (ad 15)] s)) ∧ (¬ x4 = 0 → tw_ld s 15 ((9 : Int32) + x3) (fun y8 => tw_T G l o ad h d mX3_forget (tw_qi G o ad h K) 305 [some (.ref o), some (.int x1), none, some (.int x3), none, some (.int x5), some (.int z0), some (.int (y5 + y6)), none] [.int y8, .int ((1 : Int32) + x3), .ref (ad 15)] s)))))) : tw_T G l o ad h d mX3_forget (tw_qi G o ad h K) 223 [some (.ref o), some (.int x1), none, some (.int x3), some (.int x4), some (.int x5), none, none, none] [.int z0] s := by
  refine wq_istore (L' := [some (.ref o), some (.int x1), none, some (.int x3), some (.int x4), some (.int x5), some (.int z0), none, none]) (pc := 223) dX3_forget_223 (Nat.le_of_ble_eq_true rfl) rfl ?_
  refine wq_iload (pc := 225) dX3_forget_225 rfl ?_
  refine wq_if_eq (pc := 227) (tgt := 252) dX3_forget_227 rfl (fun c => ?_) (fun c => ?_)
  · have V := V.1 c
    refine wq_aload_n (pc := 252) dX3_forget_252 rfl rfl ?_
    refine tg15 (pc := 253) rfl dX3_forget_253 ?_
    refine wq_iload (pc := 256) dX3_forget_256 rfl ?_
    refine wq_iconst (pc := 258) dX3_forget_258 csti2 ?_
    refine wq_iadd (pc := 259) dX3_forget_259 ?_
    refine tw_iald' (pc := 260) ok mia15 dX3_forget_260 V (fun y1 V => ?_)
    refine wq_aload_n (pc := 261) dX3_forget_261 rfl rfl ?_
    refine tg15 (pc := 262) rfl dX3_forget_262 ?_
    refine wq_iload (pc := 265) dX3_forget_265 rfl ?_
    refine wq_iconst (pc := 267) dX3_forget_267 csti3 ?_
    refine wq_iadd (pc := 268) dX3_forget_268 ?_
    refine tw_iald' (pc := 269) ok mia15 dX3_forget_269 V (fun y2 V => ?_)
    refine wq_iadd (pc := 270) dX3_forget_270 ?_
    refine wq_istore (L' := [some (.ref o), some (.int x1), none, some (.int x3), some (.int x4), some (.int x5), some (.int z0), some (.int (y1 + y2)), none]) (pc := 271) dX3_forget_271 (Nat.le_of_ble_eq_true rfl) rfl ?_
    refine wq_aload_n (pc := 273) dX3_forget_273 rfl rfl ?_
    refine tg15 (pc := 274) rfl dX3_forget_274 ?_
    refine wq_iconst (pc := 277) dX3_forget_277 csti1 ?_
    refine wq_iload_n (pc := 278) dX3_forget_278 rfl rfl ?_
    refine wq_iadd (pc := 279) dX3_forget_279 ?_
    refine wq_iload (pc := 280) dX3_forget_280 rfl ?_
    refine wq_if_eq (pc := 282) (tgt := 297) dX3_forget_282 rfl (fun c => ?_) (fun c => ?_)
    · have V := V.1 c
      refine wq_aload_n (pc := 297) dX3_forget_297 rfl rfl ?_
      refine tg15 (pc := 298) rfl dX3_forget_298 ?_
      refine wq_iconst (pc := 301) dX3_forget_301 csti1 ?_
      refine wq_iload_n (pc := 302) dX3_forget_302 rfl rfl ?_
      refine wq_iadd (pc := 303) dX3_forget_303 ?_
      refine tw_iald' (pc := 304) ok mia15 dX3_forget_304 V (fun y3 V => ?_)
      exact wq_T.less V ⟨rfl, ⟨rfl, ⟨rfl, ⟨rfl, ⟨rfl, ⟨rfl, trivial⟩⟩⟩⟩⟩⟩
    · have V := V.2 c
      refine wq_aload_n (pc := 285) dX3_forget_285 rfl rfl ?_
      refine tg15 (pc := 286) rfl dX3_forget_286 ?_
      refine wq_bipush (pc := 289) dX3_forget_289 cstb9 ?_
      refine wq_iload_n (pc := 291) dX3_forget_291 rfl rfl ?_
      refine wq_iadd (pc := 292) dX3_forget_292 ?_
      refine tw_iald' (pc := 293) ok mia15 dX3_forget_293 V (fun y4 V => ?_)
      refine wq_goto (pc := 294) (tgt := 305) dX3_forget_294 rfl ?_
      exact wq_T.less V ⟨rfl, ⟨rfl, ⟨rfl, ⟨rfl, ⟨rfl, ⟨rfl, trivial⟩⟩⟩⟩⟩⟩
  · have V := V.2 c
    refine wq_aload_n (pc := 230) dX3_forget_230 rfl rfl ?_
    refine tg15 (pc := 231) rfl dX3_forget_231 ?_
    refine wq_iload (pc := 234) dX3_forget_234 rfl ?_
    refine wq_iconst (pc := 236) dX3_forget_236 csti1 ?_
    refine wq_iadd (pc := 237) dX3_forget_237 ?_
    refine tw_iald' (pc := 238) ok mia15 dX3_forget_238 V (fun y5 V => ?_)
    refine wq_aload_n (pc := 239) dX3_forget_239 rfl rfl ?_
    refine tg15 (pc := 240) rfl dX3_forget_240 ?_
    refine wq_iload (pc := 243) dX3_forget_243 rfl ?_
    refine wq_iconst (pc := 245) dX3_forget_245 csti3 ?_
    refine wq_iadd (pc := 246) dX3_forget_246 ?_
    refine tw_iald' (pc := 247) ok mia15 dX3_forget_247 V (fun y6 V => ?_)
    refine wq_iadd (pc := 248) dX3_forget_248 ?_
    refine wq_goto (pc := 249) (tgt := 271) dX3_forget_249 rfl ?_
    refine wq_istore (L' := [some (.ref o), some (.int x1), none, some (.int x3), some (.int x4), some (.int x5), some (.int z0), some (.int (y5 + y6)), none]) (pc := 271) dX3_forget_271 (Nat.le_of_ble_eq_true rfl) rfl ?_
    refine wq_aload_n (pc := 273) dX3_forget_273 rfl rfl ?_
    refine tg15 (pc := 274) rfl dX3_forget_274 ?_
    refine wq_iconst (pc := 277) dX3_forget_277 csti1 ?_
    refine wq_iload_n (pc := 278) dX3_forget_278 rfl rfl ?_
    refine wq_iadd (pc := 279) dX3_forget_279 ?_
    refine wq_iload (pc := 280) dX3_forget_280 rfl ?_
    refine wq_if_eq (pc := 282) (tgt := 297) dX3_forget_282 rfl (fun c => ?_) (fun c => ?_)
    · have V := V.1 c
      refine wq_aload_n (pc := 297) dX3_forget_297 rfl rfl ?_
      refine tg15 (pc := 298) rfl dX3_forget_298 ?_
      refine wq_iconst (pc := 301) dX3_forget_301 csti1 ?_
      refine wq_iload_n (pc := 302) dX3_forget_302 rfl rfl ?_
      refine wq_iadd (pc := 303) dX3_forget_303 ?_
      refine tw_iald' (pc := 304) ok mia15 dX3_forget_304 V (fun y7 V => ?_)
      exact wq_T.less V ⟨rfl, ⟨rfl, ⟨rfl, ⟨rfl, ⟨rfl, ⟨rfl, trivial⟩⟩⟩⟩⟩⟩
    · have V := V.2 c
      refine wq_aload_n (pc := 285) dX3_forget_285 rfl rfl ?_
      refine tg15 (pc := 286) rfl dX3_forget_286 ?_
      refine wq_bipush (pc := 289) dX3_forget_289 cstb9 ?_
      refine wq_iload_n (pc := 291) dX3_forget_291 rfl rfl ?_
      refine wq_iadd (pc := 292) dX3_forget_292 ?_
      refine tw_iald' (pc := 293) ok mia15 dX3_forget_293 V (fun y8 V => ?_)
      refine wq_goto (pc := 294) (tgt := 305) dX3_forget_294 rfl ?_
      exact wq_T.less V ⟨rfl, ⟨rfl, ⟨rfl, ⟨rfl, ⟨rfl, ⟨rfl, trivial⟩⟩⟩⟩⟩⟩
theorem vX3_forget_305 {G : wq_G} {l : Launch} {o : Nat} {ad : Nat → Nat} {h : wq_H} {d : Nat} {K : Int32 → tw_S → Prop} (ok : tw_ok G o ad)  {x1 : Int32} {x3 : Int32} {x5 : Int32} {x6 : Int32} {x7 : Int32} {z0 : Int32} {z1 : Int32} {s : tw_S} (V : tw_st s 15 z1 z0 (fun s1 => tw_st s1 15 ((9 : Int32) + x3) (-2 : Int32) (fun s2 => tw_st s2 15 x5 x6 (fun s3 => tw_st s3 15 (x5 + (1 : Int32)) x7 (fun s4 => tw_st s4 15 (x5 + (2 : Int32)) (0 : Int32) (fun s5 => tw_st s5 15 (x5 + (3 : Int32)) (0 : Int32) (fun s6 => tw_T G l o ad h d mX3_forget (tw_qi G o ad h K) 360 [some (.ref o), some (.int x1), none, some (.int x3), none, none, none, none, some (.int (0 : Int32))] [] s6))))))) : tw_T G l o ad h d mX3_forget (tw_qi G o ad h K) 305 [some (.ref o), some (.int x1), none, some (.int x3), none, some (.int x5), some (.int x6), some (.int x7), none] [.int z0, .int z1, .ref (ad 15)] s := by
  refine tw_iast' (pc := 305) ok mia15 dX3_forget_305 V (fun s1 V => ?_)
  refine wq_aload_n (pc := 306) dX3_forget_306 rfl rfl ?_
  refine tg15 (pc := 307) rfl dX3_forget_307 ?_
  refine wq_bipush (pc := 310) dX3_forget_310 cstb9 ?_
  refine wq_iload_n (pc := 312) dX3_forget_312 rfl rfl ?_
  refine wq_iadd (pc := 313) dX3_forget_313 ?_
  refine wq_bipush (pc := 314) dX3_forget_314 cstbm2 ?_
  refine tw_iast' (pc := 316) ok mia15 dX3_forget_316 V (fun s2 V => ?_)
  refine wq_aload_n (pc := 317) dX3_forget_317 rfl rfl ?_
  refine tg15 (pc := 318) rfl dX3_forget_318 ?_
  refine wq_iload (pc := 321) dX3_forget_321 rfl ?_
  refine wq_iload (pc := 323) dX3_forget_323 rfl ?_
  refine tw_iast' (pc := 325) ok mia15 dX3_forget_325 V (fun s3 V => ?_)
  refine wq_aload_n (pc := 326) dX3_forget_326 rfl rfl ?_
  refine tg15 (pc := 327) rfl dX3_forget_327 ?_
  refine wq_iload (pc := 330) dX3_forget_330 rfl ?_
  refine wq_iconst (pc := 332) dX3_forget_332 csti1 ?_
  refine wq_iadd (pc := 333) dX3_forget_333 ?_
  refine wq_iload (pc := 334) dX3_forget_334 rfl ?_
  refine tw_iast' (pc := 336) ok mia15 dX3_forget_336 V (fun s4 V => ?_)
  refine wq_aload_n (pc := 337) dX3_forget_337 rfl rfl ?_
  refine tg15 (pc := 338) rfl dX3_forget_338 ?_
  refine wq_iload (pc := 341) dX3_forget_341 rfl ?_
  refine wq_iconst (pc := 343) dX3_forget_343 csti2 ?_
  refine wq_iadd (pc := 344) dX3_forget_344 ?_
  refine wq_iconst (pc := 345) dX3_forget_345 csti0 ?_
  refine tw_iast' (pc := 346) ok mia15 dX3_forget_346 V (fun s5 V => ?_)
  refine wq_aload_n (pc := 347) dX3_forget_347 rfl rfl ?_
  refine tg15 (pc := 348) rfl dX3_forget_348 ?_
  refine wq_iload (pc := 351) dX3_forget_351 rfl ?_
  refine wq_iconst (pc := 353) dX3_forget_353 csti3 ?_
  refine wq_iadd (pc := 354) dX3_forget_354 ?_
  refine wq_iconst (pc := 355) dX3_forget_355 csti0 ?_
  refine tw_iast' (pc := 356) ok mia15 dX3_forget_356 V (fun s6 V => ?_)
  refine wq_iconst (pc := 357) dX3_forget_357 csti0 ?_
  refine wq_istore (L' := [some (.ref o), some (.int x1), none, some (.int x3), none, some (.int x5), some (.int x6), some (.int x7), some (.int (0 : Int32))]) (pc := 358) dX3_forget_358 (Nat.le_of_ble_eq_true rfl) rfl ?_
  exact wq_T.less V ⟨rfl, ⟨rfl, ⟨rfl, ⟨rfl, trivial⟩⟩⟩⟩
theorem vX3_forget_360 {G : wq_G} {l : Launch} {o : Nat} {ad : Nat → Nat} {h : wq_H} {d : Nat} {K : Int32 → tw_S → Prop} (ok : tw_ok G o ad)  {x1 : Int32} {x3 : Int32} {x8 : Int32} {s : tw_S} (V : ((4 : Int32) ≤ x8 → tw_T G l o ad h d mX3_forget (tw_qi G o ad h K) 107 [some (.ref o), some (.int x1), none, some (.int (x3 + (-1 : Int32))), none, none, none, none, none] [] s) ∧ (¬ (4 : Int32) ≤ x8 → tw_st s 17 (((4 : Int32) * x3) + x8) (0 : Int32) (fun s1 => tw_T G l o ad h d mX3_forget (tw_qi G o ad h K) 360 [some (.ref o), some (.int x1), none, some (.int x3), none, none, none, none, some (.int (x8 + (1 : Int32)))] [] s1))) : tw_T G l o ad h d mX3_forget (tw_qi G o ad h K) 360 [some (.ref o), some (.int x1), none, some (.int x3), none, none, none, none, some (.int x8)] [] s := by
  refine wq_iload (pc := 360) dX3_forget_360 rfl ?_
  refine wq_iconst (pc := 362) dX3_forget_362 csti4 ?_
  refine wq_icmp_ge (pc := 363) (tgt := 384) dX3_forget_363 rfl (fun c => ?_) (fun c => ?_)
  · have V := V.1 c
    refine wq_iinc (L' := [some (.ref o), some (.int x1), none, some (.int (x3 + (-1 : Int32))), none, none, none, none, some (.int x8)]) (pc := 384) dX3_forget_384 rfl (by rw [cstim1]) (Nat.le_of_ble_eq_true rfl) rfl ?_
    refine wq_goto (pc := 387) (tgt := 107) dX3_forget_387 rfl ?_
    exact wq_T.less V ⟨rfl, ⟨rfl, ⟨rfl, trivial⟩⟩⟩
  · have V := V.2 c
    refine wq_aload_n (pc := 366) dX3_forget_366 rfl rfl ?_
    refine tg17 (pc := 367) rfl dX3_forget_367 ?_
    refine wq_iconst (pc := 370) dX3_forget_370 csti4 ?_
    refine wq_iload_n (pc := 371) dX3_forget_371 rfl rfl ?_
    refine wq_imul (pc := 372) dX3_forget_372 ?_
    refine wq_iload (pc := 373) dX3_forget_373 rfl ?_
    refine wq_iadd (pc := 375) dX3_forget_375 ?_
    refine wq_iconst (pc := 376) dX3_forget_376 csti0 ?_
    refine tw_iast' (pc := 377) ok mia17 dX3_forget_377 V (fun s1 V => ?_)
    refine wq_iinc (L' := [some (.ref o), some (.int x1), none, some (.int x3), none, none, none, none, some (.int (x8 + (1 : Int32)))]) (pc := 378) dX3_forget_378 rfl (by rw [csti1]) (Nat.le_of_ble_eq_true rfl) rfl ?_
    refine wq_goto (pc := 381) (tgt := 360) dX3_forget_381 rfl ?_
    exact V
theorem vX3_shift_0 {G : wq_G} {l : Launch} {o : Nat} {ad : Nat → Nat} {h : wq_H} {d : Nat} {K : Int32 → tw_S → Prop} (ok : tw_ok G o ad)  {x1 : Int32} {x2 : Int32} {x3 : Int32} {x4 : Int32} {s : tw_S} (V : tw_cv G l o ad h d mX3_good [.ref o] s (fun s1 => tw_ci G l o ad h d mX3_isOutcome [.ref o, .int x1, .int x2] s1 (fun y3 s2 => (y3 = 0 → tw_ci G l o ad h d mX3_isNot [.ref o, .int (1 : Int32)] s2 (fun y5 s4 => (y5 = 0 ∨ y5 = 1) ∧ K y5 s4)) ∧ (¬ y3 = 0 → tw_ci G l o ad h d mX3_isOutcome [.ref o, .int x1, .int x3] s2 (fun y7 s6 => (y7 = 0 → tw_ci G l o ad h d mX3_isNot [.ref o, .int (1 : Int32)] s6 (fun y9 s8 => (y9 = 0 ∨ y9 = 1) ∧ K y9 s8)) ∧ (¬ y7 = 0 → (¬ x2 = x3 → tw_ci G l o ad h d mX3_within [.int x4, .int (1 : Int32), .int (60 : Int32)] s6 (fun y11 s10 => (¬ y11 = 0 → tw_ld s10 15 (((17 : Int32) + ((4 : Int32) * x1)) + x2) (fun y12 => (x4 ≤ y12 → tw_cv G l o ad h d mX3_copy [.ref (ad 15), .int (0 : Int32), .ref (ad 18), .int (0 : Int32), .int (49 : Int32)] s10 (fun s13 => tw_ld s13 15 (((17 : Int32) + ((4 : Int32) * x1)) + x2) (fun y14 => tw_st s13 15 (((17 : Int32) + ((4 : Int32) * x1)) + x2) (y14 - x4) (fun s15 => tw_ld s15 15 (((17 : Int32) + ((4 : Int32) * x1)) + x3) (fun y16 => tw_st s15 15 (((17 : Int32) + ((4 : Int32) * x1)) + x3) (y16 + x4) (fun s17 => tw_ci G l o ad h d mX3_did [.ref o, .int (3 : Int32), .int x1, .int x2, .int x3, .int x4] s17 (fun y19 s18 => (y19 = 0 ∨ y19 = 1) ∧ K y19 s18))))))) ∧ (¬ x4 ≤ y12 → tw_ci G l o ad h d mX3_isNot [.ref o, .int (5 : Int32)] s10 (fun y21 s20 => (y21 = 0 ∨ y21 = 1) ∧ K y21 s20)))) ∧ (y11 = 0 → tw_ci G l o ad h d mX3_isNot [.ref o, .int (2 : Int32)] s10 (fun y23 s22 => (y23 = 0 ∨ y23 = 1) ∧ K y23 s22)))) ∧ (x2 = x3 → tw_ci G l o ad h d mX3_isNot [.ref o, .int (1 : Int32)] s6 (fun y25 s24 => (y25 = 0 ∨ y25 = 1) ∧ K y25 s24)))))))) : tw_T G l o ad h d mX3_shift (tw_qi G o ad h K) 0 [some (.ref o), some (.int x1), some (.int x2), some (.int x3), some (.int x4)] [] s := by
  refine wq_aload_n (pc := 0) dX3_shift_0 rfl rfl ?_
  refine tcq1836 (pc := 1) (As := []) (st := []) rfl dX3_shift_1 rfl (Nat.le_of_ble_eq_true rfl) V (tw_kv (fun s1 V => ?_))
  refine wq_aload_n (pc := 4) dX3_shift_4 rfl rfl ?_
  refine wq_iload_n (pc := 5) dX3_shift_5 rfl rfl ?_
  refine wq_iload_n (pc := 6) dX3_shift_6 rfl rfl ?_
  refine tcq2043 (pc := 7) (As := [.int x1, .int x2]) (st := []) rfl dX3_shift_7 rfl (Nat.le_of_ble_eq_true rfl) V (tw_ki (fun y3 s2 V => ?_))
  refine wq_if_eq (pc := 10) (tgt := 27) dX3_shift_10 rfl (fun c => ?_) (fun c => ?_)
  · have V := V.1 c
    refine wq_aload_n (pc := 27) dX3_shift_27 rfl rfl ?_
    refine wq_iconst (pc := 28) dX3_shift_28 csti1 ?_
    refine tcq2131 (pc := 29) (As := [.int (1 : Int32)]) (st := []) rfl dX3_shift_29 rfl (Nat.le_of_ble_eq_true rfl) V (tw_ki (fun y5 s4 V => ?_))
    refine wq_zret (pc := 32) dX3_shift_32 rfl (tw_z V.1).1 ⟨_, _, rfl, rfl, V.2⟩
  · have V := V.2 c
    refine wq_aload_n (pc := 13) dX3_shift_13 rfl rfl ?_
    refine wq_iload_n (pc := 14) dX3_shift_14 rfl rfl ?_
    refine wq_iload_n (pc := 15) dX3_shift_15 rfl rfl ?_
    refine tcq2043 (pc := 16) (As := [.int x1, .int x3]) (st := []) rfl dX3_shift_16 rfl (Nat.le_of_ble_eq_true rfl) V (tw_ki (fun y7 s6 V => ?_))
    refine wq_if_eq (pc := 19) (tgt := 27) dX3_shift_19 rfl (fun c => ?_) (fun c => ?_)
    · have V := V.1 c
      refine wq_aload_n (pc := 27) dX3_shift_27 rfl rfl ?_
      refine wq_iconst (pc := 28) dX3_shift_28 csti1 ?_
      refine tcq2131 (pc := 29) (As := [.int (1 : Int32)]) (st := []) rfl dX3_shift_29 rfl (Nat.le_of_ble_eq_true rfl) V (tw_ki (fun y9 s8 V => ?_))
      refine wq_zret (pc := 32) dX3_shift_32 rfl (tw_z V.1).1 ⟨_, _, rfl, rfl, V.2⟩
    · have V := V.2 c
      refine wq_iload_n (pc := 22) dX3_shift_22 rfl rfl ?_
      refine wq_iload_n (pc := 23) dX3_shift_23 rfl rfl ?_
      refine wq_icmp_ne (pc := 24) (tgt := 33) dX3_shift_24 rfl (fun c => ?_) (fun c => ?_)
      · have V := V.1 c
        refine wq_iload (pc := 33) dX3_shift_33 rfl ?_
        refine wq_iconst (pc := 35) dX3_shift_35 csti1 ?_
        refine wq_bipush (pc := 36) dX3_shift_36 cstb60 ?_
        refine tcq1840 (pc := 38) (As := [.int x4, .int (1 : Int32), .int (60 : Int32)]) (st := []) rfl dX3_shift_38 rfl (Nat.le_of_ble_eq_true rfl) V (tw_ki (fun y11 s10 V => ?_))
        refine wq_if_ne (pc := 41) (tgt := 50) dX3_shift_41 rfl (fun c => ?_) (fun c => ?_)
        · have V := V.1 c
          refine wq_aload_n (pc := 50) dX3_shift_50 rfl rfl ?_
          refine tg15 (pc := 51) rfl dX3_shift_51 ?_
          refine wq_bipush (pc := 54) dX3_shift_54 cstb17 ?_
          refine wq_iconst (pc := 56) dX3_shift_56 csti4 ?_
          refine wq_iload_n (pc := 57) dX3_shift_57 rfl rfl ?_
          refine wq_imul (pc := 58) dX3_shift_58 ?_
          refine wq_iadd (pc := 59) dX3_shift_59 ?_
          refine wq_iload_n (pc := 60) dX3_shift_60 rfl rfl ?_
          refine wq_iadd (pc := 61) dX3_shift_61 ?_
          refine tw_iald' (pc := 62) ok mia15 dX3_shift_62 V (fun y12 V => ?_)
          refine wq_iload (pc := 63) dX3_shift_63 rfl ?_
          refine wq_icmp_ge (pc := 65) (tgt := 74) dX3_shift_65 rfl (fun c => ?_) (fun c => ?_)
          · have V := V.1 c
            refine wq_aload_n (pc := 74) dX3_shift_74 rfl rfl ?_
            refine tg15 (pc := 75) rfl dX3_shift_75 ?_
            refine wq_iconst (pc := 78) dX3_shift_78 csti0 ?_
            refine wq_aload_n (pc := 79) dX3_shift_79 rfl rfl ?_
            refine tg18 (pc := 80) rfl dX3_shift_80 ?_
            refine wq_iconst (pc := 83) dX3_shift_83 csti0 ?_
            refine wq_bipush (pc := 84) dX3_shift_84 cstb49 ?_
            refine tcq2272 (pc := 86) (As := [.ref (ad 15), .int (0 : Int32), .ref (ad 18), .int (0 : Int32), .int (49 : Int32)]) (st := []) rfl dX3_shift_86 rfl (Nat.le_of_ble_eq_true rfl) V (tw_kv (fun s13 V => ?_))
            refine wq_aload_n (pc := 89) dX3_shift_89 rfl rfl ?_
            refine tg15 (pc := 90) rfl dX3_shift_90 ?_
            refine wq_bipush (pc := 93) dX3_shift_93 cstb17 ?_
            refine wq_iconst (pc := 95) dX3_shift_95 csti4 ?_
            refine wq_iload_n (pc := 96) dX3_shift_96 rfl rfl ?_
            refine wq_imul (pc := 97) dX3_shift_97 ?_
            refine wq_iadd (pc := 98) dX3_shift_98 ?_
            refine wq_iload_n (pc := 99) dX3_shift_99 rfl rfl ?_
            refine wq_iadd (pc := 100) dX3_shift_100 ?_
            refine wq_dup2 (pc := 101) dX3_shift_101 rfl rfl ?_
            refine tw_iald' (pc := 102) ok mia15 dX3_shift_102 V (fun y14 V => ?_)
            refine wq_iload (pc := 103) dX3_shift_103 rfl ?_
            refine wq_isub (pc := 105) dX3_shift_105 ?_
            refine tw_iast' (pc := 106) ok mia15 dX3_shift_106 V (fun s15 V => ?_)
            refine wq_aload_n (pc := 107) dX3_shift_107 rfl rfl ?_
            refine tg15 (pc := 108) rfl dX3_shift_108 ?_
            refine wq_bipush (pc := 111) dX3_shift_111 cstb17 ?_
            refine wq_iconst (pc := 113) dX3_shift_113 csti4 ?_
            refine wq_iload_n (pc := 114) dX3_shift_114 rfl rfl ?_
            refine wq_imul (pc := 115) dX3_shift_115 ?_
            refine wq_iadd (pc := 116) dX3_shift_116 ?_
            refine wq_iload_n (pc := 117) dX3_shift_117 rfl rfl ?_
            refine wq_iadd (pc := 118) dX3_shift_118 ?_
            refine wq_dup2 (pc := 119) dX3_shift_119 rfl rfl ?_
            refine tw_iald' (pc := 120) ok mia15 dX3_shift_120 V (fun y16 V => ?_)
            refine wq_iload (pc := 121) dX3_shift_121 rfl ?_
            refine wq_iadd (pc := 123) dX3_shift_123 ?_
            refine tw_iast' (pc := 124) ok mia15 dX3_shift_124 V (fun s17 V => ?_)
            refine wq_aload_n (pc := 125) dX3_shift_125 rfl rfl ?_
            refine wq_iconst (pc := 126) dX3_shift_126 csti3 ?_
            refine wq_iload_n (pc := 127) dX3_shift_127 rfl rfl ?_
            refine wq_iload_n (pc := 128) dX3_shift_128 rfl rfl ?_
            refine wq_iload_n (pc := 129) dX3_shift_129 rfl rfl ?_
            refine wq_iload (pc := 130) dX3_shift_130 rfl ?_
            refine tcq2275 (pc := 132) (As := [.int (3 : Int32), .int x1, .int x2, .int x3, .int x4]) (st := []) rfl dX3_shift_132 rfl (Nat.le_of_ble_eq_true rfl) V (tw_ki (fun y19 s18 V => ?_))
            refine wq_zret (pc := 135) dX3_shift_135 rfl (tw_z V.1).1 ⟨_, _, rfl, rfl, V.2⟩
          · have V := V.2 c
            refine wq_aload_n (pc := 68) dX3_shift_68 rfl rfl ?_
            refine wq_iconst (pc := 69) dX3_shift_69 csti5 ?_
            refine tcq2131 (pc := 70) (As := [.int (5 : Int32)]) (st := []) rfl dX3_shift_70 rfl (Nat.le_of_ble_eq_true rfl) V (tw_ki (fun y21 s20 V => ?_))
            refine wq_zret (pc := 73) dX3_shift_73 rfl (tw_z V.1).1 ⟨_, _, rfl, rfl, V.2⟩
        · have V := V.2 c
          refine wq_aload_n (pc := 44) dX3_shift_44 rfl rfl ?_
          refine wq_iconst (pc := 45) dX3_shift_45 csti2 ?_
          refine tcq2131 (pc := 46) (As := [.int (2 : Int32)]) (st := []) rfl dX3_shift_46 rfl (Nat.le_of_ble_eq_true rfl) V (tw_ki (fun y23 s22 V => ?_))
          refine wq_zret (pc := 49) dX3_shift_49 rfl (tw_z V.1).1 ⟨_, _, rfl, rfl, V.2⟩
      · have V := V.2 c
        refine wq_aload_n (pc := 27) dX3_shift_27 rfl rfl ?_
        refine wq_iconst (pc := 28) dX3_shift_28 csti1 ?_
        refine tcq2131 (pc := 29) (As := [.int (1 : Int32)]) (st := []) rfl dX3_shift_29 rfl (Nat.le_of_ble_eq_true rfl) V (tw_ki (fun y25 s24 V => ?_))
        refine wq_zret (pc := 32) dX3_shift_32 rfl (tw_z V.1).1 ⟨_, _, rfl, rfl, V.2⟩
theorem vX3_undo_0 {G : wq_G} {l : Launch} {o : Nat} {ad : Nat → Nat} {h : wq_H} {d : Nat} {K : Int32 → tw_S → Prop} (ok : tw_ok G o ad)   {s : tw_S} (V : tw_cv G l o ad h d mX3_good [.ref o] s (fun s1 => (¬ (s1.1 24) = 0 → tw_pt s1 24 ((s1.1 24) - (1 : Int32)) (fun s2 => tw_cv G l o ad h d mX3_copy [.ref (ad 15), .int (0 : Int32), .ref (ad 18), .int (0 : Int32), .int (49 : Int32)] s2 (fun s3 => tw_ld s3 22 ((5 : Int32) * (s3.1 24)) (fun y4 => tw_ld s3 22 (((5 : Int32) * (s3.1 24)) + (1 : Int32)) (fun y5 => tw_ld s3 22 (((5 : Int32) * (s3.1 24)) + (2 : Int32)) (fun y6 => tw_ld s3 22 (((5 : Int32) * (s3.1 24)) + (3 : Int32)) (fun y7 => tw_ld s3 22 (((5 : Int32) * (s3.1 24)) + (4 : Int32)) (fun y8 => tw_cv G l o ad h d mX3_keep [.ref (ad 20), .ref (ad 23), .int (s3.1 25), .ref (ad 18), .int y4, .int y5, .int y6, .int y7, .int y8] s3 (fun s9 => (¬ (s9.1 25) = (20 : Int32) → tw_pt s9 25 ((s9.1 25) + (1 : Int32)) (fun s10 => tw_cv G l o ad h d mX3_copy [.ref (ad 19), .int ((49 : Int32) * (s10.1 24)), .ref (ad 15), .int (0 : Int32), .int (49 : Int32)] s10 (fun s11 => tw_cv G l o ad h d mX3_noCoins [.ref o] s11 (fun s12 => K (1 : Int32) s12)))) ∧ ((s9.1 25) = (20 : Int32) → tw_pt s9 25 (20 : Int32) (fun s13 => tw_cv G l o ad h d mX3_copy [.ref (ad 19), .int ((49 : Int32) * (s13.1 24)), .ref (ad 15), .int (0 : Int32), .int (49 : Int32)] s13 (fun s14 => tw_cv G l o ad h d mX3_noCoins [.ref o] s14 (fun s15 => K (1 : Int32) s15))))))))))))) ∧ ((s1.1 24) = 0 → tw_ci G l o ad h d mX3_isNot [.ref o, .int (6 : Int32)] s1 (fun y17 s16 => (y17 = 0 ∨ y17 = 1) ∧ K y17 s16)))) : tw_T G l o ad h d mX3_undo (tw_qi G o ad h K) 0 [some (.ref o), none] [] s := by
  refine wq_aload_n (pc := 0) dX3_undo_0 rfl rfl ?_
  refine tcq1836 (pc := 1) (As := []) (st := []) rfl dX3_undo_1 rfl (Nat.le_of_ble_eq_true rfl) V (tw_kv (fun s1 V => ?_))
  refine wq_aload_n (pc := 4) dX3_undo_4 rfl rfl ?_
  refine tg24 (pc := 5) rfl dX3_undo_5 ?_
  refine wq_if_ne (pc := 8) (tgt := 18) dX3_undo_8 rfl (fun c => ?_) (fun c => ?_)
  · have V := V.1 c
    refine wq_aload_n (pc := 18) dX3_undo_18 rfl rfl ?_
    refine wq_dup (pc := 19) dX3_undo_19 rfl ?_
    refine tg24 (pc := 20) rfl dX3_undo_20 ?_
    refine wq_iconst (pc := 23) dX3_undo_23 csti1 ?_
    refine wq_isub (pc := 24) dX3_undo_24 ?_
    refine tp24 (pc := 25) rfl ok dX3_undo_25 V (fun s2 V => ?_)
    refine wq_aload_n (pc := 28) dX3_undo_28 rfl rfl ?_
    refine tg15 (pc := 29) rfl dX3_undo_29 ?_
    refine wq_iconst (pc := 32) dX3_undo_32 csti0 ?_
    refine wq_aload_n (pc := 33) dX3_undo_33 rfl rfl ?_
    refine tg18 (pc := 34) rfl dX3_undo_34 ?_
    refine wq_iconst (pc := 37) dX3_undo_37 csti0 ?_
    refine wq_bipush (pc := 38) dX3_undo_38 cstb49 ?_
    refine tcq2272 (pc := 40) (As := [.ref (ad 15), .int (0 : Int32), .ref (ad 18), .int (0 : Int32), .int (49 : Int32)]) (st := []) rfl dX3_undo_40 rfl (Nat.le_of_ble_eq_true rfl) V (tw_kv (fun s3 V => ?_))
    refine wq_iconst (pc := 43) dX3_undo_43 csti5 ?_
    refine wq_aload_n (pc := 44) dX3_undo_44 rfl rfl ?_
    refine tg24 (pc := 45) rfl dX3_undo_45 ?_
    refine wq_imul (pc := 48) dX3_undo_48 ?_
    refine wq_istore_n (L' := [some (.ref o), some (.int ((5 : Int32) * (s3.1 24)))]) (pc := 49) dX3_undo_49 rfl (Nat.le_of_ble_eq_true rfl) rfl ?_
    refine wq_aload_n (pc := 50) dX3_undo_50 rfl rfl ?_
    refine tg20 (pc := 51) rfl dX3_undo_51 ?_
    refine wq_aload_n (pc := 54) dX3_undo_54 rfl rfl ?_
    refine tg23 (pc := 55) rfl dX3_undo_55 ?_
    refine wq_aload_n (pc := 58) dX3_undo_58 rfl rfl ?_
    refine tg25 (pc := 59) rfl dX3_undo_59 ?_
    refine wq_aload_n (pc := 62) dX3_undo_62 rfl rfl ?_
    refine tg18 (pc := 63) rfl dX3_undo_63 ?_
    refine wq_aload_n (pc := 66) dX3_undo_66 rfl rfl ?_
    refine tg22 (pc := 67) rfl dX3_undo_67 ?_
    refine wq_iload_n (pc := 70) dX3_undo_70 rfl rfl ?_
    refine tw_iald' (pc := 71) ok mia22 dX3_undo_71 V (fun y4 V => ?_)
    refine wq_aload_n (pc := 72) dX3_undo_72 rfl rfl ?_
    refine tg22 (pc := 73) rfl dX3_undo_73 ?_
    refine wq_iload_n (pc := 76) dX3_undo_76 rfl rfl ?_
    refine wq_iconst (pc := 77) dX3_undo_77 csti1 ?_
    refine wq_iadd (pc := 78) dX3_undo_78 ?_
    refine tw_iald' (pc := 79) ok mia22 dX3_undo_79 V (fun y5 V => ?_)
    refine wq_aload_n (pc := 80) dX3_undo_80 rfl rfl ?_
    refine tg22 (pc := 81) rfl dX3_undo_81 ?_
    refine wq_iload_n (pc := 84) dX3_undo_84 rfl rfl ?_
    refine wq_iconst (pc := 85) dX3_undo_85 csti2 ?_
    refine wq_iadd (pc := 86) dX3_undo_86 ?_
    refine tw_iald' (pc := 87) ok mia22 dX3_undo_87 V (fun y6 V => ?_)
    refine wq_aload_n (pc := 88) dX3_undo_88 rfl rfl ?_
    refine tg22 (pc := 89) rfl dX3_undo_89 ?_
    refine wq_iload_n (pc := 92) dX3_undo_92 rfl rfl ?_
    refine wq_iconst (pc := 93) dX3_undo_93 csti3 ?_
    refine wq_iadd (pc := 94) dX3_undo_94 ?_
    refine tw_iald' (pc := 95) ok mia22 dX3_undo_95 V (fun y7 V => ?_)
    refine wq_aload_n (pc := 96) dX3_undo_96 rfl rfl ?_
    refine tg22 (pc := 97) rfl dX3_undo_97 ?_
    refine wq_iload_n (pc := 100) dX3_undo_100 rfl rfl ?_
    refine wq_iconst (pc := 101) dX3_undo_101 csti4 ?_
    refine wq_iadd (pc := 102) dX3_undo_102 ?_
    refine tw_iald' (pc := 103) ok mia22 dX3_undo_103 V (fun y8 V => ?_)
    refine tcq2279 (pc := 104) (As := [.ref (ad 20), .ref (ad 23), .int (s3.1 25), .ref (ad 18), .int y4, .int y5, .int y6, .int y7, .int y8]) (st := []) rfl dX3_undo_104 rfl (Nat.le_of_ble_eq_true rfl) V (tw_kv (fun s9 V => ?_))
    refine wq_aload_n (pc := 107) dX3_undo_107 rfl rfl ?_
    refine wq_aload_n (pc := 108) dX3_undo_108 rfl rfl ?_
    refine tg25 (pc := 109) rfl dX3_undo_109 ?_
    refine wq_bipush (pc := 112) dX3_undo_112 cstb20 ?_
    refine wq_icmp_ne (pc := 114) (tgt := 122) dX3_undo_114 rfl (fun c => ?_) (fun c => ?_)
    · have V := V.1 c
      refine wq_aload_n (pc := 122) dX3_undo_122 rfl rfl ?_
      refine tg25 (pc := 123) rfl dX3_undo_123 ?_
      refine wq_iconst (pc := 126) dX3_undo_126 csti1 ?_
      refine wq_iadd (pc := 127) dX3_undo_127 ?_
      refine tp25 (pc := 128) rfl ok dX3_undo_128 V (fun s10 V => ?_)
      refine wq_aload_n (pc := 131) dX3_undo_131 rfl rfl ?_
      refine tg19 (pc := 132) rfl dX3_undo_132 ?_
      refine wq_bipush (pc := 135) dX3_undo_135 cstb49 ?_
      refine wq_aload_n (pc := 137) dX3_undo_137 rfl rfl ?_
      refine tg24 (pc := 138) rfl dX3_undo_138 ?_
      refine wq_imul (pc := 141) dX3_undo_141 ?_
      refine wq_aload_n (pc := 142) dX3_undo_142 rfl rfl ?_
      refine tg15 (pc := 143) rfl dX3_undo_143 ?_
      refine wq_iconst (pc := 146) dX3_undo_146 csti0 ?_
      refine wq_bipush (pc := 147) dX3_undo_147 cstb49 ?_
      refine tcq2272 (pc := 149) (As := [.ref (ad 19), .int ((49 : Int32) * (s10.1 24)), .ref (ad 15), .int (0 : Int32), .int (49 : Int32)]) (st := []) rfl dX3_undo_149 rfl (Nat.le_of_ble_eq_true rfl) V (tw_kv (fun s11 V => ?_))
      refine wq_aload_n (pc := 152) dX3_undo_152 rfl rfl ?_
      refine tcq1971 (pc := 153) (As := []) (st := []) rfl dX3_undo_153 rfl (Nat.le_of_ble_eq_true rfl) V (tw_kv (fun s12 V => ?_))
      refine wq_iconst (pc := 156) dX3_undo_156 csti1 ?_
      refine wq_zret (pc := 157) dX3_undo_157 rfl tw_nb1 ⟨_, _, rfl, rfl, V⟩
    · have V := V.2 c
      refine wq_bipush (pc := 117) dX3_undo_117 cstb20 ?_
      refine wq_goto (pc := 119) (tgt := 128) dX3_undo_119 rfl ?_
      refine tp25 (pc := 128) rfl ok dX3_undo_128 V (fun s13 V => ?_)
      refine wq_aload_n (pc := 131) dX3_undo_131 rfl rfl ?_
      refine tg19 (pc := 132) rfl dX3_undo_132 ?_
      refine wq_bipush (pc := 135) dX3_undo_135 cstb49 ?_
      refine wq_aload_n (pc := 137) dX3_undo_137 rfl rfl ?_
      refine tg24 (pc := 138) rfl dX3_undo_138 ?_
      refine wq_imul (pc := 141) dX3_undo_141 ?_
      refine wq_aload_n (pc := 142) dX3_undo_142 rfl rfl ?_
      refine tg15 (pc := 143) rfl dX3_undo_143 ?_
      refine wq_iconst (pc := 146) dX3_undo_146 csti0 ?_
      refine wq_bipush (pc := 147) dX3_undo_147 cstb49 ?_
      refine tcq2272 (pc := 149) (As := [.ref (ad 19), .int ((49 : Int32) * (s13.1 24)), .ref (ad 15), .int (0 : Int32), .int (49 : Int32)]) (st := []) rfl dX3_undo_149 rfl (Nat.le_of_ble_eq_true rfl) V (tw_kv (fun s14 V => ?_))
      refine wq_aload_n (pc := 152) dX3_undo_152 rfl rfl ?_
      refine tcq1971 (pc := 153) (As := []) (st := []) rfl dX3_undo_153 rfl (Nat.le_of_ble_eq_true rfl) V (tw_kv (fun s15 V => ?_))
      refine wq_iconst (pc := 156) dX3_undo_156 csti1 ?_
      refine wq_zret (pc := 157) dX3_undo_157 rfl tw_nb1 ⟨_, _, rfl, rfl, V⟩
  · have V := V.2 c
    refine wq_aload_n (pc := 11) dX3_undo_11 rfl rfl ?_
    refine wq_bipush (pc := 12) dX3_undo_12 cstb6 ?_
    refine tcq2131 (pc := 14) (As := [.int (6 : Int32)]) (st := []) rfl dX3_undo_14 rfl (Nat.le_of_ble_eq_true rfl) V (tw_ki (fun y17 s16 V => ?_))
    refine wq_zret (pc := 17) dX3_undo_17 rfl (tw_z V.1).1 ⟨_, _, rfl, rfl, V.2⟩
theorem vX3_redo_0 {G : wq_G} {l : Launch} {o : Nat} {ad : Nat → Nat} {h : wq_H} {d : Nat} {K : Int32 → tw_S → Prop} (ok : tw_ok G o ad)   {s : tw_S} (V : tw_cv G l o ad h d mX3_good [.ref o] s (fun s1 => (¬ (s1.1 25) = 0 → tw_pt s1 25 ((s1.1 25) - (1 : Int32)) (fun s2 => tw_cv G l o ad h d mX3_copy [.ref (ad 15), .int (0 : Int32), .ref (ad 18), .int (0 : Int32), .int (49 : Int32)] s2 (fun s3 => tw_ld s3 23 ((5 : Int32) * (s3.1 25)) (fun y4 => tw_ld s3 23 (((5 : Int32) * (s3.1 25)) + (1 : Int32)) (fun y5 => tw_ld s3 23 (((5 : Int32) * (s3.1 25)) + (2 : Int32)) (fun y6 => tw_ld s3 23 (((5 : Int32) * (s3.1 25)) + (3 : Int32)) (fun y7 => tw_ld s3 23 (((5 : Int32) * (s3.1 25)) + (4 : Int32)) (fun y8 => tw_cv G l o ad h d mX3_keep [.ref (ad 19), .ref (ad 22), .int (s3.1 24), .ref (ad 18), .int y4, .int y5, .int y6, .int y7, .int y8] s3 (fun s9 => (¬ (s9.1 24) = (20 : Int32) → tw_pt s9 24 ((s9.1 24) + (1 : Int32)) (fun s10 => tw_cv G l o ad h d mX3_copy [.ref (ad 20), .int ((49 : Int32) * (s10.1 25)), .ref (ad 15), .int (0 : Int32), .int (49 : Int32)] s10 (fun s11 => tw_cv G l o ad h d mX3_noCoins [.ref o] s11 (fun s12 => K (1 : Int32) s12)))) ∧ ((s9.1 24) = (20 : Int32) → tw_pt s9 24 (20 : Int32) (fun s13 => tw_cv G l o ad h d mX3_copy [.ref (ad 20), .int ((49 : Int32) * (s13.1 25)), .ref (ad 15), .int (0 : Int32), .int (49 : Int32)] s13 (fun s14 => tw_cv G l o ad h d mX3_noCoins [.ref o] s14 (fun s15 => K (1 : Int32) s15))))))))))))) ∧ ((s1.1 25) = 0 → tw_ci G l o ad h d mX3_isNot [.ref o, .int (6 : Int32)] s1 (fun y17 s16 => (y17 = 0 ∨ y17 = 1) ∧ K y17 s16)))) : tw_T G l o ad h d mX3_redo (tw_qi G o ad h K) 0 [some (.ref o), none] [] s := by
  refine wq_aload_n (pc := 0) dX3_redo_0 rfl rfl ?_
  refine tcq1836 (pc := 1) (As := []) (st := []) rfl dX3_redo_1 rfl (Nat.le_of_ble_eq_true rfl) V (tw_kv (fun s1 V => ?_))
  refine wq_aload_n (pc := 4) dX3_redo_4 rfl rfl ?_
  refine tg25 (pc := 5) rfl dX3_redo_5 ?_
  refine wq_if_ne (pc := 8) (tgt := 18) dX3_redo_8 rfl (fun c => ?_) (fun c => ?_)
  · have V := V.1 c
    refine wq_aload_n (pc := 18) dX3_redo_18 rfl rfl ?_
    refine wq_dup (pc := 19) dX3_redo_19 rfl ?_
    refine tg25 (pc := 20) rfl dX3_redo_20 ?_
    refine wq_iconst (pc := 23) dX3_redo_23 csti1 ?_
    refine wq_isub (pc := 24) dX3_redo_24 ?_
    refine tp25 (pc := 25) rfl ok dX3_redo_25 V (fun s2 V => ?_)
    refine wq_aload_n (pc := 28) dX3_redo_28 rfl rfl ?_
    refine tg15 (pc := 29) rfl dX3_redo_29 ?_
    refine wq_iconst (pc := 32) dX3_redo_32 csti0 ?_
    refine wq_aload_n (pc := 33) dX3_redo_33 rfl rfl ?_
    refine tg18 (pc := 34) rfl dX3_redo_34 ?_
    refine wq_iconst (pc := 37) dX3_redo_37 csti0 ?_
    refine wq_bipush (pc := 38) dX3_redo_38 cstb49 ?_
    refine tcq2272 (pc := 40) (As := [.ref (ad 15), .int (0 : Int32), .ref (ad 18), .int (0 : Int32), .int (49 : Int32)]) (st := []) rfl dX3_redo_40 rfl (Nat.le_of_ble_eq_true rfl) V (tw_kv (fun s3 V => ?_))
    refine wq_iconst (pc := 43) dX3_redo_43 csti5 ?_
    refine wq_aload_n (pc := 44) dX3_redo_44 rfl rfl ?_
    refine tg25 (pc := 45) rfl dX3_redo_45 ?_
    refine wq_imul (pc := 48) dX3_redo_48 ?_
    refine wq_istore_n (L' := [some (.ref o), some (.int ((5 : Int32) * (s3.1 25)))]) (pc := 49) dX3_redo_49 rfl (Nat.le_of_ble_eq_true rfl) rfl ?_
    refine wq_aload_n (pc := 50) dX3_redo_50 rfl rfl ?_
    refine tg19 (pc := 51) rfl dX3_redo_51 ?_
    refine wq_aload_n (pc := 54) dX3_redo_54 rfl rfl ?_
    refine tg22 (pc := 55) rfl dX3_redo_55 ?_
    refine wq_aload_n (pc := 58) dX3_redo_58 rfl rfl ?_
    refine tg24 (pc := 59) rfl dX3_redo_59 ?_
    refine wq_aload_n (pc := 62) dX3_redo_62 rfl rfl ?_
    refine tg18 (pc := 63) rfl dX3_redo_63 ?_
    refine wq_aload_n (pc := 66) dX3_redo_66 rfl rfl ?_
    refine tg23 (pc := 67) rfl dX3_redo_67 ?_
    refine wq_iload_n (pc := 70) dX3_redo_70 rfl rfl ?_
    refine tw_iald' (pc := 71) ok mia23 dX3_redo_71 V (fun y4 V => ?_)
    refine wq_aload_n (pc := 72) dX3_redo_72 rfl rfl ?_
    refine tg23 (pc := 73) rfl dX3_redo_73 ?_
    refine wq_iload_n (pc := 76) dX3_redo_76 rfl rfl ?_
    refine wq_iconst (pc := 77) dX3_redo_77 csti1 ?_
    refine wq_iadd (pc := 78) dX3_redo_78 ?_
    refine tw_iald' (pc := 79) ok mia23 dX3_redo_79 V (fun y5 V => ?_)
    refine wq_aload_n (pc := 80) dX3_redo_80 rfl rfl ?_
    refine tg23 (pc := 81) rfl dX3_redo_81 ?_
    refine wq_iload_n (pc := 84) dX3_redo_84 rfl rfl ?_
    refine wq_iconst (pc := 85) dX3_redo_85 csti2 ?_
    refine wq_iadd (pc := 86) dX3_redo_86 ?_
    refine tw_iald' (pc := 87) ok mia23 dX3_redo_87 V (fun y6 V => ?_)
    refine wq_aload_n (pc := 88) dX3_redo_88 rfl rfl ?_
    refine tg23 (pc := 89) rfl dX3_redo_89 ?_
    refine wq_iload_n (pc := 92) dX3_redo_92 rfl rfl ?_
    refine wq_iconst (pc := 93) dX3_redo_93 csti3 ?_
    refine wq_iadd (pc := 94) dX3_redo_94 ?_
    refine tw_iald' (pc := 95) ok mia23 dX3_redo_95 V (fun y7 V => ?_)
    refine wq_aload_n (pc := 96) dX3_redo_96 rfl rfl ?_
    refine tg23 (pc := 97) rfl dX3_redo_97 ?_
    refine wq_iload_n (pc := 100) dX3_redo_100 rfl rfl ?_
    refine wq_iconst (pc := 101) dX3_redo_101 csti4 ?_
    refine wq_iadd (pc := 102) dX3_redo_102 ?_
    refine tw_iald' (pc := 103) ok mia23 dX3_redo_103 V (fun y8 V => ?_)
    refine tcq2279 (pc := 104) (As := [.ref (ad 19), .ref (ad 22), .int (s3.1 24), .ref (ad 18), .int y4, .int y5, .int y6, .int y7, .int y8]) (st := []) rfl dX3_redo_104 rfl (Nat.le_of_ble_eq_true rfl) V (tw_kv (fun s9 V => ?_))
    refine wq_aload_n (pc := 107) dX3_redo_107 rfl rfl ?_
    refine wq_aload_n (pc := 108) dX3_redo_108 rfl rfl ?_
    refine tg24 (pc := 109) rfl dX3_redo_109 ?_
    refine wq_bipush (pc := 112) dX3_redo_112 cstb20 ?_
    refine wq_icmp_ne (pc := 114) (tgt := 122) dX3_redo_114 rfl (fun c => ?_) (fun c => ?_)
    · have V := V.1 c
      refine wq_aload_n (pc := 122) dX3_redo_122 rfl rfl ?_
      refine tg24 (pc := 123) rfl dX3_redo_123 ?_
      refine wq_iconst (pc := 126) dX3_redo_126 csti1 ?_
      refine wq_iadd (pc := 127) dX3_redo_127 ?_
      refine tp24 (pc := 128) rfl ok dX3_redo_128 V (fun s10 V => ?_)
      refine wq_aload_n (pc := 131) dX3_redo_131 rfl rfl ?_
      refine tg20 (pc := 132) rfl dX3_redo_132 ?_
      refine wq_bipush (pc := 135) dX3_redo_135 cstb49 ?_
      refine wq_aload_n (pc := 137) dX3_redo_137 rfl rfl ?_
      refine tg25 (pc := 138) rfl dX3_redo_138 ?_
      refine wq_imul (pc := 141) dX3_redo_141 ?_
      refine wq_aload_n (pc := 142) dX3_redo_142 rfl rfl ?_
      refine tg15 (pc := 143) rfl dX3_redo_143 ?_
      refine wq_iconst (pc := 146) dX3_redo_146 csti0 ?_
      refine wq_bipush (pc := 147) dX3_redo_147 cstb49 ?_
      refine tcq2272 (pc := 149) (As := [.ref (ad 20), .int ((49 : Int32) * (s10.1 25)), .ref (ad 15), .int (0 : Int32), .int (49 : Int32)]) (st := []) rfl dX3_redo_149 rfl (Nat.le_of_ble_eq_true rfl) V (tw_kv (fun s11 V => ?_))
      refine wq_aload_n (pc := 152) dX3_redo_152 rfl rfl ?_
      refine tcq1971 (pc := 153) (As := []) (st := []) rfl dX3_redo_153 rfl (Nat.le_of_ble_eq_true rfl) V (tw_kv (fun s12 V => ?_))
      refine wq_iconst (pc := 156) dX3_redo_156 csti1 ?_
      refine wq_zret (pc := 157) dX3_redo_157 rfl tw_nb1 ⟨_, _, rfl, rfl, V⟩
    · have V := V.2 c
      refine wq_bipush (pc := 117) dX3_redo_117 cstb20 ?_
      refine wq_goto (pc := 119) (tgt := 128) dX3_redo_119 rfl ?_
      refine tp24 (pc := 128) rfl ok dX3_redo_128 V (fun s13 V => ?_)
      refine wq_aload_n (pc := 131) dX3_redo_131 rfl rfl ?_
      refine tg20 (pc := 132) rfl dX3_redo_132 ?_
      refine wq_bipush (pc := 135) dX3_redo_135 cstb49 ?_
      refine wq_aload_n (pc := 137) dX3_redo_137 rfl rfl ?_
      refine tg25 (pc := 138) rfl dX3_redo_138 ?_
      refine wq_imul (pc := 141) dX3_redo_141 ?_
      refine wq_aload_n (pc := 142) dX3_redo_142 rfl rfl ?_
      refine tg15 (pc := 143) rfl dX3_redo_143 ?_
      refine wq_iconst (pc := 146) dX3_redo_146 csti0 ?_
      refine wq_bipush (pc := 147) dX3_redo_147 cstb49 ?_
      refine tcq2272 (pc := 149) (As := [.ref (ad 20), .int ((49 : Int32) * (s13.1 25)), .ref (ad 15), .int (0 : Int32), .int (49 : Int32)]) (st := []) rfl dX3_redo_149 rfl (Nat.le_of_ble_eq_true rfl) V (tw_kv (fun s14 V => ?_))
      refine wq_aload_n (pc := 152) dX3_redo_152 rfl rfl ?_
      refine tcq1971 (pc := 153) (As := []) (st := []) rfl dX3_redo_153 rfl (Nat.le_of_ble_eq_true rfl) V (tw_kv (fun s15 V => ?_))
      refine wq_iconst (pc := 156) dX3_redo_156 csti1 ?_
      refine wq_zret (pc := 157) dX3_redo_157 rfl tw_nb1 ⟨_, _, rfl, rfl, V⟩
  · have V := V.2 c
    refine wq_aload_n (pc := 11) dX3_redo_11 rfl rfl ?_
    refine wq_bipush (pc := 12) dX3_redo_12 cstb6 ?_
    refine tcq2131 (pc := 14) (As := [.int (6 : Int32)]) (st := []) rfl dX3_redo_14 rfl (Nat.le_of_ble_eq_true rfl) V (tw_ki (fun y17 s16 V => ?_))
    refine wq_zret (pc := 17) dX3_redo_17 rfl (tw_z V.1).1 ⟨_, _, rfl, rfl, V.2⟩
theorem vX3_mark_0 {G : wq_G} {l : Launch} {o : Nat} {ad : Nat → Nat} {h : wq_H} {d : Nat} {K : Int32 → tw_S → Prop} (ok : tw_ok G o ad)   {s : tw_S} (V : tw_cv G l o ad h d mX3_good [.ref o] s (fun s1 => (¬ (s1.1 14) = 0 → (¬ (s1.1 26) = (4 : Int32) → tw_cv G l o ad h d mX3_copy [.ref (ad 15), .int (0 : Int32), .ref (ad 21), .int ((49 : Int32) * (s1.1 26)), .int (49 : Int32)] s1 (fun s2 => tw_pt s2 26 ((s2.1 26) + (1 : Int32)) (fun s3 => K ((s3.1 26) - (1 : Int32)) s3))) ∧ ((s1.1 26) = (4 : Int32) → tw_ci G l o ad h d mX3_no [.ref o, .int (3 : Int32)] s1 (fun y5 s4 => K y5 s4))) ∧ ((s1.1 14) = 0 → tw_ci G l o ad h d mX3_no [.ref o, .int (1 : Int32)] s1 (fun y7 s6 => K y7 s6)))) : tw_T G l o ad h d mX3_mark (tw_qi G o ad h K) 0 [some (.ref o)] [] s := by
  refine wq_aload_n (pc := 0) dX3_mark_0 rfl rfl ?_
  refine tcq1836 (pc := 1) (As := []) (st := []) rfl dX3_mark_1 rfl (Nat.le_of_ble_eq_true rfl) V (tw_kv (fun s1 V => ?_))
  refine wq_aload_n (pc := 4) dX3_mark_4 rfl rfl ?_
  refine tg14 (pc := 5) rfl dX3_mark_5 ?_
  refine wq_if_ne (pc := 8) (tgt := 17) dX3_mark_8 rfl (fun c => ?_) (fun c => ?_)
  · have V := V.1 c
    refine wq_aload_n (pc := 17) dX3_mark_17 rfl rfl ?_
    refine tg26 (pc := 18) rfl dX3_mark_18 ?_
    refine wq_iconst (pc := 21) dX3_mark_21 csti4 ?_
    refine wq_icmp_ne (pc := 22) (tgt := 31) dX3_mark_22 rfl (fun c => ?_) (fun c => ?_)
    · have V := V.1 c
      refine wq_aload_n (pc := 31) dX3_mark_31 rfl rfl ?_
      refine tg15 (pc := 32) rfl dX3_mark_32 ?_
      refine wq_iconst (pc := 35) dX3_mark_35 csti0 ?_
      refine wq_aload_n (pc := 36) dX3_mark_36 rfl rfl ?_
      refine tg21 (pc := 37) rfl dX3_mark_37 ?_
      refine wq_bipush (pc := 40) dX3_mark_40 cstb49 ?_
      refine wq_aload_n (pc := 42) dX3_mark_42 rfl rfl ?_
      refine tg26 (pc := 43) rfl dX3_mark_43 ?_
      refine wq_imul (pc := 46) dX3_mark_46 ?_
      refine wq_bipush (pc := 47) dX3_mark_47 cstb49 ?_
      refine tcq2272 (pc := 49) (As := [.ref (ad 15), .int (0 : Int32), .ref (ad 21), .int ((49 : Int32) * (s1.1 26)), .int (49 : Int32)]) (st := []) rfl dX3_mark_49 rfl (Nat.le_of_ble_eq_true rfl) V (tw_kv (fun s2 V => ?_))
      refine wq_aload_n (pc := 52) dX3_mark_52 rfl rfl ?_
      refine wq_dup (pc := 53) dX3_mark_53 rfl ?_
      refine tg26 (pc := 54) rfl dX3_mark_54 ?_
      refine wq_iconst (pc := 57) dX3_mark_57 csti1 ?_
      refine wq_iadd (pc := 58) dX3_mark_58 ?_
      refine tp26 (pc := 59) rfl ok dX3_mark_59 V (fun s3 V => ?_)
      refine wq_aload_n (pc := 62) dX3_mark_62 rfl rfl ?_
      refine tg26 (pc := 63) rfl dX3_mark_63 ?_
      refine wq_iconst (pc := 66) dX3_mark_66 csti1 ?_
      refine wq_isub (pc := 67) dX3_mark_67 ?_
      refine wq_iret (pc := 68) dX3_mark_68 rfl ⟨_, _, rfl, rfl, V⟩
    · have V := V.2 c
      refine wq_aload_n (pc := 25) dX3_mark_25 rfl rfl ?_
      refine wq_iconst (pc := 26) dX3_mark_26 csti3 ?_
      refine tcq1843 (pc := 27) (As := [.int (3 : Int32)]) (st := []) rfl dX3_mark_27 rfl (Nat.le_of_ble_eq_true rfl) V (tw_ki (fun y5 s4 V => ?_))
      refine wq_iret (pc := 30) dX3_mark_30 rfl ⟨_, _, rfl, rfl, V⟩
  · have V := V.2 c
    refine wq_aload_n (pc := 11) dX3_mark_11 rfl rfl ?_
    refine wq_iconst (pc := 12) dX3_mark_12 csti1 ?_
    refine tcq1843 (pc := 13) (As := [.int (1 : Int32)]) (st := []) rfl dX3_mark_13 rfl (Nat.le_of_ble_eq_true rfl) V (tw_ki (fun y7 s6 V => ?_))
    refine wq_iret (pc := 16) dX3_mark_16 rfl ⟨_, _, rfl, rfl, V⟩
theorem vX3_back_0 {G : wq_G} {l : Launch} {o : Nat} {ad : Nat → Nat} {h : wq_H} {d : Nat} {K : Int32 → tw_S → Prop} (ok : tw_ok G o ad)  {x1 : Int32} {s : tw_S} (V : tw_cv G l o ad h d mX3_good [.ref o] s (fun s1 => tw_ci G l o ad h d mX3_within [.int x1, .int (0 : Int32), .int ((s1.1 26) - (1 : Int32))] s1 (fun y3 s2 => (¬ y3 = 0 → tw_cv G l o ad h d mX3_copy [.ref (ad 21), .int ((49 : Int32) * x1), .ref (ad 15), .int (0 : Int32), .int (49 : Int32)] s2 (fun s4 => tw_pt s4 24 (0 : Int32) (fun s5 => tw_pt s5 25 (0 : Int32) (fun s6 => tw_cv G l o ad h d mX3_noCoins [.ref o] s6 (fun s7 => K (1 : Int32) s7))))) ∧ (y3 = 0 → tw_ci G l o ad h d mX3_isNot [.ref o, .int (1 : Int32)] s2 (fun y9 s8 => (y9 = 0 ∨ y9 = 1) ∧ K y9 s8))))) : tw_T G l o ad h d mX3_back (tw_qi G o ad h K) 0 [some (.ref o), some (.int x1)] [] s := by
  refine wq_aload_n (pc := 0) dX3_back_0 rfl rfl ?_
  refine tcq1836 (pc := 1) (As := []) (st := []) rfl dX3_back_1 rfl (Nat.le_of_ble_eq_true rfl) V (tw_kv (fun s1 V => ?_))
  refine wq_iload_n (pc := 4) dX3_back_4 rfl rfl ?_
  refine wq_iconst (pc := 5) dX3_back_5 csti0 ?_
  refine wq_aload_n (pc := 6) dX3_back_6 rfl rfl ?_
  refine tg26 (pc := 7) rfl dX3_back_7 ?_
  refine wq_iconst (pc := 10) dX3_back_10 csti1 ?_
  refine wq_isub (pc := 11) dX3_back_11 ?_
  refine tcq1840 (pc := 12) (As := [.int x1, .int (0 : Int32), .int ((s1.1 26) - (1 : Int32))]) (st := []) rfl dX3_back_12 rfl (Nat.le_of_ble_eq_true rfl) V (tw_ki (fun y3 s2 V => ?_))
  refine wq_if_ne (pc := 15) (tgt := 24) dX3_back_15 rfl (fun c => ?_) (fun c => ?_)
  · have V := V.1 c
    refine wq_aload_n (pc := 24) dX3_back_24 rfl rfl ?_
    refine tg21 (pc := 25) rfl dX3_back_25 ?_
    refine wq_bipush (pc := 28) dX3_back_28 cstb49 ?_
    refine wq_iload_n (pc := 30) dX3_back_30 rfl rfl ?_
    refine wq_imul (pc := 31) dX3_back_31 ?_
    refine wq_aload_n (pc := 32) dX3_back_32 rfl rfl ?_
    refine tg15 (pc := 33) rfl dX3_back_33 ?_
    refine wq_iconst (pc := 36) dX3_back_36 csti0 ?_
    refine wq_bipush (pc := 37) dX3_back_37 cstb49 ?_
    refine tcq2272 (pc := 39) (As := [.ref (ad 21), .int ((49 : Int32) * x1), .ref (ad 15), .int (0 : Int32), .int (49 : Int32)]) (st := []) rfl dX3_back_39 rfl (Nat.le_of_ble_eq_true rfl) V (tw_kv (fun s4 V => ?_))
    refine wq_aload_n (pc := 42) dX3_back_42 rfl rfl ?_
    refine wq_iconst (pc := 43) dX3_back_43 csti0 ?_
    refine tp24 (pc := 44) rfl ok dX3_back_44 V (fun s5 V => ?_)
    refine wq_aload_n (pc := 47) dX3_back_47 rfl rfl ?_
    refine wq_iconst (pc := 48) dX3_back_48 csti0 ?_
    refine tp25 (pc := 49) rfl ok dX3_back_49 V (fun s6 V => ?_)
    refine wq_aload_n (pc := 52) dX3_back_52 rfl rfl ?_
    refine tcq1971 (pc := 53) (As := []) (st := []) rfl dX3_back_53 rfl (Nat.le_of_ble_eq_true rfl) V (tw_kv (fun s7 V => ?_))
    refine wq_iconst (pc := 56) dX3_back_56 csti1 ?_
    refine wq_zret (pc := 57) dX3_back_57 rfl tw_nb1 ⟨_, _, rfl, rfl, V⟩
  · have V := V.2 c
    refine wq_aload_n (pc := 18) dX3_back_18 rfl rfl ?_
    refine wq_iconst (pc := 19) dX3_back_19 csti1 ?_
    refine tcq2131 (pc := 20) (As := [.int (1 : Int32)]) (st := []) rfl dX3_back_20 rfl (Nat.le_of_ble_eq_true rfl) V (tw_ki (fun y9 s8 V => ?_))
    refine wq_zret (pc := 23) dX3_back_23 rfl (tw_z V.1).1 ⟨_, _, rfl, rfl, V.2⟩
theorem vX3_act_0 {G : wq_G} {l : Launch} {o : Nat} {ad : Nat → Nat} {h : wq_H} {d : Nat} {K : Int32 → tw_S → Prop} (ok : tw_ok G o ad)  {x1 : Int32} {x2 : Int32} {s : tw_S} (V : tw_cv G l o ad h d mX3_good [.ref o] s (fun s1 => ((s1.1 14) = 0 → tw_ci G l o ad h d mX3_no [.ref o, .int (1 : Int32)] s1 (fun y3 s2 => K y3 s2)) ∧ (¬ (s1.1 14) = 0 → tw_ci G l o ad h d mX3_within [.int x1, .int (0 : Int32), .int ((s1.1 24) - (1 : Int32))] s1 (fun y5 s4 => (y5 = 0 → tw_ci G l o ad h d mX3_no [.ref o, .int (1 : Int32)] s4 (fun y7 s6 => K y7 s6)) ∧ (¬ y5 = 0 → tw_ci G l o ad h d mX3_within [.int x2, .int (0 : Int32), .int (4 : Int32)] s4 (fun y9 s8 => (y9 = 0 → tw_ci G l o ad h d mX3_no [.ref o, .int (1 : Int32)] s8 (fun y11 s10 => K y11 s10)) ∧ (¬ y9 = 0 → tw_ld s8 22 (((5 : Int32) * x1) + x2) (fun y12 => K y12 s8)))))))) : tw_T G l o ad h d mX3_act (tw_qi G o ad h K) 0 [some (.ref o), some (.int x1), some (.int x2)] [] s := by
  refine wq_aload_n (pc := 0) dX3_act_0 rfl rfl ?_
  refine tcq1836 (pc := 1) (As := []) (st := []) rfl dX3_act_1 rfl (Nat.le_of_ble_eq_true rfl) V (tw_kv (fun s1 V => ?_))
  refine wq_aload_n (pc := 4) dX3_act_4 rfl rfl ?_
  refine tg14 (pc := 5) rfl dX3_act_5 ?_
  refine wq_if_eq (pc := 8) (tgt := 47) dX3_act_8 rfl (fun c => ?_) (fun c => ?_)
  · have V := V.1 c
    refine wq_aload_n (pc := 47) dX3_act_47 rfl rfl ?_
    refine wq_iconst (pc := 48) dX3_act_48 csti1 ?_
    refine tcq1843 (pc := 49) (As := [.int (1 : Int32)]) (st := []) rfl dX3_act_49 rfl (Nat.le_of_ble_eq_true rfl) V (tw_ki (fun y3 s2 V => ?_))
    refine wq_iret (pc := 52) dX3_act_52 rfl ⟨_, _, rfl, rfl, V⟩
  · have V := V.2 c
    refine wq_iload_n (pc := 11) dX3_act_11 rfl rfl ?_
    refine wq_iconst (pc := 12) dX3_act_12 csti0 ?_
    refine wq_aload_n (pc := 13) dX3_act_13 rfl rfl ?_
    refine tg24 (pc := 14) rfl dX3_act_14 ?_
    refine wq_iconst (pc := 17) dX3_act_17 csti1 ?_
    refine wq_isub (pc := 18) dX3_act_18 ?_
    refine tcq1840 (pc := 19) (As := [.int x1, .int (0 : Int32), .int ((s1.1 24) - (1 : Int32))]) (st := []) rfl dX3_act_19 rfl (Nat.le_of_ble_eq_true rfl) V (tw_ki (fun y5 s4 V => ?_))
    refine wq_if_eq (pc := 22) (tgt := 47) dX3_act_22 rfl (fun c => ?_) (fun c => ?_)
    · have V := V.1 c
      refine wq_aload_n (pc := 47) dX3_act_47 rfl rfl ?_
      refine wq_iconst (pc := 48) dX3_act_48 csti1 ?_
      refine tcq1843 (pc := 49) (As := [.int (1 : Int32)]) (st := []) rfl dX3_act_49 rfl (Nat.le_of_ble_eq_true rfl) V (tw_ki (fun y7 s6 V => ?_))
      refine wq_iret (pc := 52) dX3_act_52 rfl ⟨_, _, rfl, rfl, V⟩
    · have V := V.2 c
      refine wq_iload_n (pc := 25) dX3_act_25 rfl rfl ?_
      refine wq_iconst (pc := 26) dX3_act_26 csti0 ?_
      refine wq_iconst (pc := 27) dX3_act_27 csti4 ?_
      refine tcq1840 (pc := 28) (As := [.int x2, .int (0 : Int32), .int (4 : Int32)]) (st := []) rfl dX3_act_28 rfl (Nat.le_of_ble_eq_true rfl) V (tw_ki (fun y9 s8 V => ?_))
      refine wq_if_eq (pc := 31) (tgt := 47) dX3_act_31 rfl (fun c => ?_) (fun c => ?_)
      · have V := V.1 c
        refine wq_aload_n (pc := 47) dX3_act_47 rfl rfl ?_
        refine wq_iconst (pc := 48) dX3_act_48 csti1 ?_
        refine tcq1843 (pc := 49) (As := [.int (1 : Int32)]) (st := []) rfl dX3_act_49 rfl (Nat.le_of_ble_eq_true rfl) V (tw_ki (fun y11 s10 V => ?_))
        refine wq_iret (pc := 52) dX3_act_52 rfl ⟨_, _, rfl, rfl, V⟩
      · have V := V.2 c
        refine wq_aload_n (pc := 34) dX3_act_34 rfl rfl ?_
        refine tg22 (pc := 35) rfl dX3_act_35 ?_
        refine wq_iconst (pc := 38) dX3_act_38 csti5 ?_
        refine wq_iload_n (pc := 39) dX3_act_39 rfl rfl ?_
        refine wq_imul (pc := 40) dX3_act_40 ?_
        refine wq_iload_n (pc := 41) dX3_act_41 rfl rfl ?_
        refine wq_iadd (pc := 42) dX3_act_42 ?_
        refine tw_iald' (pc := 43) ok mia22 dX3_act_43 V (fun y12 V => ?_)
        refine wq_goto (pc := 44) (tgt := 52) dX3_act_44 rfl ?_
        refine wq_iret (pc := 52) dX3_act_52 rfl ⟨_, _, rfl, rfl, V⟩
theorem vX3_times_0 {G : wq_G} {l : Launch} {o : Nat} {ad : Nat → Nat} {h : wq_H} {d : Nat} {K : Int32 → tw_S → Prop} (ok : tw_ok G o ad)  {x1 : Int32} {x2 : Int32} {s : tw_S} (V : tw_cv G l o ad h d mX3_good [.ref o] s (fun s1 => tw_ci G l o ad h d mX3_isOutcome [.ref o, .int x1, .int x2] s1 (fun y3 s2 => (y3 = 0 → tw_ci G l o ad h d mX3_no [.ref o, .int (1 : Int32)] s2 (fun y5 s4 => K y5 s4)) ∧ (¬ y3 = 0 → tw_ld s2 15 (((17 : Int32) + ((4 : Int32) * x1)) + x2) (fun y6 => K y6 s2))))) : tw_T G l o ad h d mX3_times (tw_qi G o ad h K) 0 [some (.ref o), some (.int x1), some (.int x2)] [] s := by
  refine wq_aload_n (pc := 0) dX3_times_0 rfl rfl ?_
  refine tcq1836 (pc := 1) (As := []) (st := []) rfl dX3_times_1 rfl (Nat.le_of_ble_eq_true rfl) V (tw_kv (fun s1 V => ?_))
  refine wq_aload_n (pc := 4) dX3_times_4 rfl rfl ?_
  refine wq_iload_n (pc := 5) dX3_times_5 rfl rfl ?_
  refine wq_iload_n (pc := 6) dX3_times_6 rfl rfl ?_
  refine tcq2043 (pc := 7) (As := [.int x1, .int x2]) (st := []) rfl dX3_times_7 rfl (Nat.le_of_ble_eq_true rfl) V (tw_ki (fun y3 s2 V => ?_))
  refine wq_if_eq (pc := 10) (tgt := 29) dX3_times_10 rfl (fun c => ?_) (fun c => ?_)
  · have V := V.1 c
    refine wq_aload_n (pc := 29) dX3_times_29 rfl rfl ?_
    refine wq_iconst (pc := 30) dX3_times_30 csti1 ?_
    refine tcq1843 (pc := 31) (As := [.int (1 : Int32)]) (st := []) rfl dX3_times_31 rfl (Nat.le_of_ble_eq_true rfl) V (tw_ki (fun y5 s4 V => ?_))
    refine wq_iret (pc := 34) dX3_times_34 rfl ⟨_, _, rfl, rfl, V⟩
  · have V := V.2 c
    refine wq_aload_n (pc := 13) dX3_times_13 rfl rfl ?_
    refine tg15 (pc := 14) rfl dX3_times_14 ?_
    refine wq_bipush (pc := 17) dX3_times_17 cstb17 ?_
    refine wq_iconst (pc := 19) dX3_times_19 csti4 ?_
    refine wq_iload_n (pc := 20) dX3_times_20 rfl rfl ?_
    refine wq_imul (pc := 21) dX3_times_21 ?_
    refine wq_iadd (pc := 22) dX3_times_22 ?_
    refine wq_iload_n (pc := 23) dX3_times_23 rfl rfl ?_
    refine wq_iadd (pc := 24) dX3_times_24 ?_
    refine tw_iald' (pc := 25) ok mia15 dX3_times_25 V (fun y6 V => ?_)
    refine wq_goto (pc := 26) (tgt := 34) dX3_times_26 rfl ?_
    refine wq_iret (pc := 34) dX3_times_34 rfl ⟨_, _, rfl, rfl, V⟩
theorem vX3_look_0 {G : wq_G} {l : Launch} {o : Nat} {ad : Nat → Nat} {h : wq_H} {d : Nat} {K : Int32 → tw_S → Prop} (ok : tw_ok G o ad)  {x1 : Int32} {x2 : Int32} {s : tw_S} (V : tw_cv G l o ad h d mX3_good [.ref o] s (fun s1 => tw_ci G l o ad h d mX3_isSet [.ref o, .int x1] s1 (fun y3 s2 => (y3 = 0 → tw_ci G l o ad h d mX3_no [.ref o, .int (1 : Int32)] s2 (fun y5 s4 => K y5 s4)) ∧ (¬ y3 = 0 → (x2 = 0 → tw_ld s2 15 ((1 : Int32) + x1) (fun y6 => K y6 s2)) ∧ (¬ x2 = 0 → tw_ld s2 15 ((9 : Int32) + x1) (fun y7 => K y7 s2)))))) : tw_T G l o ad h d mX3_look (tw_qi G o ad h K) 0 [some (.ref o), some (.int x1), some (.int x2)] [] s := by
  refine wq_aload_n (pc := 0) dX3_look_0 rfl rfl ?_
  refine tcq1836 (pc := 1) (As := []) (st := []) rfl dX3_look_1 rfl (Nat.le_of_ble_eq_true rfl) V (tw_kv (fun s1 V => ?_))
  refine wq_aload_n (pc := 4) dX3_look_4 rfl rfl ?_
  refine wq_iload_n (pc := 5) dX3_look_5 rfl rfl ?_
  refine tcq2047 (pc := 6) (As := [.int x1]) (st := []) rfl dX3_look_6 rfl (Nat.le_of_ble_eq_true rfl) V (tw_ki (fun y3 s2 V => ?_))
  refine wq_if_eq (pc := 9) (tgt := 32) dX3_look_9 rfl (fun c => ?_) (fun c => ?_)
  · have V := V.1 c
    refine wq_aload_n (pc := 32) dX3_look_32 rfl rfl ?_
    refine wq_iconst (pc := 33) dX3_look_33 csti1 ?_
    refine tcq1843 (pc := 34) (As := [.int (1 : Int32)]) (st := []) rfl dX3_look_34 rfl (Nat.le_of_ble_eq_true rfl) V (tw_ki (fun y5 s4 V => ?_))
    refine wq_iret (pc := 37) dX3_look_37 rfl ⟨_, _, rfl, rfl, V⟩
  · have V := V.2 c
    refine wq_aload_n (pc := 12) dX3_look_12 rfl rfl ?_
    refine tg15 (pc := 13) rfl dX3_look_13 ?_
    refine wq_iload_n (pc := 16) dX3_look_16 rfl rfl ?_
    refine wq_if_eq (pc := 17) (tgt := 25) dX3_look_17 rfl (fun c => ?_) (fun c => ?_)
    · have V := V.1 c
      refine wq_iconst (pc := 25) dX3_look_25 csti1 ?_
      refine wq_iload_n (pc := 26) dX3_look_26 rfl rfl ?_
      refine wq_iadd (pc := 27) dX3_look_27 ?_
      refine tw_iald' (pc := 28) ok mia15 dX3_look_28 V (fun y6 V => ?_)
      refine wq_goto (pc := 29) (tgt := 37) dX3_look_29 rfl ?_
      refine wq_iret (pc := 37) dX3_look_37 rfl ⟨_, _, rfl, rfl, V⟩
    · have V := V.2 c
      refine wq_bipush (pc := 20) dX3_look_20 cstb9 ?_
      refine wq_goto (pc := 22) (tgt := 26) dX3_look_22 rfl ?_
      refine wq_iload_n (pc := 26) dX3_look_26 rfl rfl ?_
      refine wq_iadd (pc := 27) dX3_look_27 ?_
      refine tw_iald' (pc := 28) ok mia15 dX3_look_28 V (fun y7 V => ?_)
      refine wq_goto (pc := 29) (tgt := 37) dX3_look_29 rfl ?_
      refine wq_iret (pc := 37) dX3_look_37 rfl ⟨_, _, rfl, rfl, V⟩
theorem vX3_coins_0 {G : wq_G} {l : Launch} {o : Nat} {ad : Nat → Nat} {h : wq_H} {d : Nat} {K : Int32 → tw_S → Prop} (ok : tw_ok G o ad)  {x1 : Int32} {x2 : Int32} {s : tw_S} (V : tw_cv G l o ad h d mX3_good [.ref o] s (fun s1 => tw_ci G l o ad h d mX3_isOutcome [.ref o, .int x1, .int x2] s1 (fun y3 s2 => (y3 = 0 → tw_ci G l o ad h d mX3_no [.ref o, .int (1 : Int32)] s2 (fun y5 s4 => K y5 s4)) ∧ (¬ y3 = 0 → tw_ld s2 17 (((4 : Int32) * x1) + x2) (fun y6 => K y6 s2))))) : tw_T G l o ad h d mX3_coins (tw_qi G o ad h K) 0 [some (.ref o), some (.int x1), some (.int x2)] [] s := by
  refine wq_aload_n (pc := 0) dX3_coins_0 rfl rfl ?_
  refine tcq1836 (pc := 1) (As := []) (st := []) rfl dX3_coins_1 rfl (Nat.le_of_ble_eq_true rfl) V (tw_kv (fun s1 V => ?_))
  refine wq_aload_n (pc := 4) dX3_coins_4 rfl rfl ?_
  refine wq_iload_n (pc := 5) dX3_coins_5 rfl rfl ?_
  refine wq_iload_n (pc := 6) dX3_coins_6 rfl rfl ?_
  refine tcq2043 (pc := 7) (As := [.int x1, .int x2]) (st := []) rfl dX3_coins_7 rfl (Nat.le_of_ble_eq_true rfl) V (tw_ki (fun y3 s2 V => ?_))
  refine wq_if_eq (pc := 10) (tgt := 26) dX3_coins_10 rfl (fun c => ?_) (fun c => ?_)
  · have V := V.1 c
    refine wq_aload_n (pc := 26) dX3_coins_26 rfl rfl ?_
    refine wq_iconst (pc := 27) dX3_coins_27 csti1 ?_
    refine tcq1843 (pc := 28) (As := [.int (1 : Int32)]) (st := []) rfl dX3_coins_28 rfl (Nat.le_of_ble_eq_true rfl) V (tw_ki (fun y5 s4 V => ?_))
    refine wq_iret (pc := 31) dX3_coins_31 rfl ⟨_, _, rfl, rfl, V⟩
  · have V := V.2 c
    refine wq_aload_n (pc := 13) dX3_coins_13 rfl rfl ?_
    refine tg17 (pc := 14) rfl dX3_coins_14 ?_
    refine wq_iconst (pc := 17) dX3_coins_17 csti4 ?_
    refine wq_iload_n (pc := 18) dX3_coins_18 rfl rfl ?_
    refine wq_imul (pc := 19) dX3_coins_19 ?_
    refine wq_iload_n (pc := 20) dX3_coins_20 rfl rfl ?_
    refine wq_iadd (pc := 21) dX3_coins_21 ?_
    refine tw_iald' (pc := 22) ok mia17 dX3_coins_22 V (fun y6 V => ?_)
    refine wq_goto (pc := 23) (tgt := 31) dX3_coins_23 rfl ?_
    refine wq_iret (pc := 31) dX3_coins_31 rfl ⟨_, _, rfl, rfl, V⟩
theorem vX3_led_0 {G : wq_G} {l : Launch} {o : Nat} {ad : Nat → Nat} {h : wq_H} {d : Nat} {K : Int32 → tw_S → Prop} (ok : tw_ok G o ad)  {x1 : Int32} {s : tw_S} (V : tw_T G l o ad h d mX3_led (tw_qi G o ad h K) 4 [some (.ref o), some (.int x1), some (.int (0 : Int32)), some (.int (0 : Int32)), none] [] s) : tw_T G l o ad h d mX3_led (tw_qi G o ad h K) 0 [some (.ref o), some (.int x1), none, none, none] [] s := by
  refine wq_iconst (pc := 0) dX3_led_0 csti0 ?_
  refine wq_istore_n (L' := [some (.ref o), some (.int x1), some (.int (0 : Int32)), none, none]) (pc := 1) dX3_led_1 rfl (Nat.le_of_ble_eq_true rfl) rfl ?_
  refine wq_iconst (pc := 2) dX3_led_2 csti0 ?_
  refine wq_istore_n (L' := [some (.ref o), some (.int x1), some (.int (0 : Int32)), some (.int (0 : Int32)), none]) (pc := 3) dX3_led_3 rfl (Nat.le_of_ble_eq_true rfl) rfl ?_
  exact V
theorem vX3_led_4 {G : wq_G} {l : Launch} {o : Nat} {ad : Nat → Nat} {h : wq_H} {d : Nat} {K : Int32 → tw_S → Prop} (ok : tw_ok G o ad)  {x1 : Int32} {x2 : Int32} {x3 : Int32} {s : tw_S} (V : ((s.1 14) = 0 → tw_pt s 0 (1 : Int32) (fun s1 => K (0 : Int32) s1)) ∧ (¬ (s.1 14) = 0 → tw_ld s 15 (0 : Int32) (fun y2 => (y2 ≤ x3 → tw_pt s 0 (1 : Int32) (fun s3 => K (0 : Int32) s3)) ∧ (¬ y2 ≤ x3 → tw_T G l o ad h d mX3_led (tw_qi G o ad h K) 24 [some (.ref o), some (.int x1), some (.int x2), some (.int x3), some (.int (0 : Int32))] [] s)))) : tw_T G l o ad h d mX3_led (tw_qi G o ad h K) 4 [some (.ref o), some (.int x1), some (.int x2), some (.int x3), none] [] s := by
  refine wq_aload_n (pc := 4) dX3_led_4 rfl rfl ?_
  refine tg14 (pc := 5) rfl dX3_led_5 ?_
  refine wq_if_eq (pc := 8) (tgt := 99) dX3_led_8 rfl (fun c => ?_) (fun c => ?_)
  · have V := V.1 c
    refine wq_aload_n (pc := 99) dX3_led_99 rfl rfl ?_
    refine wq_iconst (pc := 100) dX3_led_100 csti1 ?_
    refine tp0 (pc := 101) rfl ok dX3_led_101 V (fun s1 V => ?_)
    refine wq_iconst (pc := 104) dX3_led_104 csti0 ?_
    refine wq_iret (pc := 105) dX3_led_105 rfl ⟨_, _, rfl, rfl, V⟩
  · have V := V.2 c
    refine wq_iload_n (pc := 11) dX3_led_11 rfl rfl ?_
    refine wq_aload_n (pc := 12) dX3_led_12 rfl rfl ?_
    refine tg15 (pc := 13) rfl dX3_led_13 ?_
    refine wq_iconst (pc := 16) dX3_led_16 csti0 ?_
    refine tw_iald' (pc := 17) ok mia15 dX3_led_17 V (fun y2 V => ?_)
    refine wq_icmp_ge (pc := 18) (tgt := 99) dX3_led_18 rfl (fun c => ?_) (fun c => ?_)
    · have V := V.1 c
      refine wq_aload_n (pc := 99) dX3_led_99 rfl rfl ?_
      refine wq_iconst (pc := 100) dX3_led_100 csti1 ?_
      refine tp0 (pc := 101) rfl ok dX3_led_101 V (fun s3 V => ?_)
      refine wq_iconst (pc := 104) dX3_led_104 csti0 ?_
      refine wq_iret (pc := 105) dX3_led_105 rfl ⟨_, _, rfl, rfl, V⟩
    · have V := V.2 c
      refine wq_iconst (pc := 21) dX3_led_21 csti0 ?_
      refine wq_istore (L' := [some (.ref o), some (.int x1), some (.int x2), some (.int x3), some (.int (0 : Int32))]) (pc := 22) dX3_led_22 (Nat.le_of_ble_eq_true rfl) rfl ?_
      exact V
theorem vX3_led_24 {G : wq_G} {l : Launch} {o : Nat} {ad : Nat → Nat} {h : wq_H} {d : Nat} {K : Int32 → tw_S → Prop} (ok : tw_ok G o ad)  {x1 : Int32} {x2 : Int32} {x3 : Int32} {x4 : Int32} {s : tw_S} (V : tw_ci G l o ad h d mX3_outcomes [.ref (ad 15), .int x3] s (fun y2 s1 => (y2 ≤ x4 → tw_T G l o ad h d mX3_led (tw_qi G o ad h K) 4 [some (.ref o), some (.int x1), some (.int x2), some (.int (x3 + (1 : Int32))), none] [] s1) ∧ (¬ y2 ≤ x4 → tw_ld s1 15 (((17 : Int32) + ((4 : Int32) * x3)) + x4) (fun y3 => (y3 = 0 → tw_T G l o ad h d mX3_led (tw_qi G o ad h K) 24 [some (.ref o), some (.int x1), some (.int x2), some (.int x3), some (.int (x4 + (1 : Int32)))] [] s1) ∧ (¬ y3 = 0 → tw_ci G l o ad h d mX3_doesExtend [.ref o, .int x3, .int x4] s1 (fun y5 s4 => (y5 = 0 → (¬ x2 = x1 → tw_T G l o ad h d mX3_led (tw_qi G o ad h K) 24 [some (.ref o), some (.int x1), some (.int (x2 + (1 : Int32))), some (.int x3), some (.int (x4 + (1 : Int32)))] [] s4) ∧ (x2 = x1 → tw_pt s4 0 (0 : Int32) (fun s6 => K (((4 : Int32) * x3) + x4) s6))) ∧ (¬ y5 = 0 → tw_T G l o ad h d mX3_led (tw_qi G o ad h K) 24 [some (.ref o), some (.int x1), some (.int x2), some (.int x3), some (.int (x4 + (1 : Int32)))] [] s4))))))) : tw_T G l o ad h d mX3_led (tw_qi G o ad h K) 24 [some (.ref o), some (.int x1), some (.int x2), some (.int x3), some (.int x4)] [] s := by
  refine wq_iload (pc := 24) dX3_led_24 rfl ?_
  refine wq_aload_n (pc := 26) dX3_led_26 rfl rfl ?_
  refine tg15 (pc := 27) rfl dX3_led_27 ?_
  refine wq_iload_n (pc := 30) dX3_led_30 rfl rfl ?_
  refine tcq1999 (pc := 31) (As := [.ref (ad 15), .int x3]) (st := [.int x4]) rfl dX3_led_31 rfl (Nat.le_of_ble_eq_true rfl) V (tw_ki (fun y2 s1 V => ?_))
  refine wq_icmp_ge (pc := 34) (tgt := 93) dX3_led_34 rfl (fun c => ?_) (fun c => ?_)
  · have V := V.1 c
    refine wq_iinc (L' := [some (.ref o), some (.int x1), some (.int x2), some (.int (x3 + (1 : Int32))), some (.int x4)]) (pc := 93) dX3_led_93 rfl (by rw [csti1]) (Nat.le_of_ble_eq_true rfl) rfl ?_
    refine wq_goto (pc := 96) (tgt := 4) dX3_led_96 rfl ?_
    exact wq_T.less V ⟨rfl, ⟨rfl, ⟨rfl, ⟨rfl, trivial⟩⟩⟩⟩
  · have V := V.2 c
    refine wq_aload_n (pc := 37) dX3_led_37 rfl rfl ?_
    refine tg15 (pc := 38) rfl dX3_led_38 ?_
    refine wq_bipush (pc := 41) dX3_led_41 cstb17 ?_
    refine wq_iconst (pc := 43) dX3_led_43 csti4 ?_
    refine wq_iload_n (pc := 44) dX3_led_44 rfl rfl ?_
    refine wq_imul (pc := 45) dX3_led_45 ?_
    refine wq_iadd (pc := 46) dX3_led_46 ?_
    refine wq_iload (pc := 47) dX3_led_47 rfl ?_
    refine wq_iadd (pc := 49) dX3_led_49 ?_
    refine tw_iald' (pc := 50) ok mia15 dX3_led_50 V (fun y3 V => ?_)
    refine wq_if_eq (pc := 51) (tgt := 87) dX3_led_51 rfl (fun c => ?_) (fun c => ?_)
    · have V := V.1 c
      refine wq_iinc (L' := [some (.ref o), some (.int x1), some (.int x2), some (.int x3), some (.int (x4 + (1 : Int32)))]) (pc := 87) dX3_led_87 rfl (by rw [csti1]) (Nat.le_of_ble_eq_true rfl) rfl ?_
      refine wq_goto (pc := 90) (tgt := 24) dX3_led_90 rfl ?_
      exact V
    · have V := V.2 c
      refine wq_aload_n (pc := 54) dX3_led_54 rfl rfl ?_
      refine wq_iload_n (pc := 55) dX3_led_55 rfl rfl ?_
      refine wq_iload (pc := 56) dX3_led_56 rfl ?_
      refine tcq2051 (pc := 58) (As := [.int x3, .int x4]) (st := []) rfl dX3_led_58 rfl (Nat.le_of_ble_eq_true rfl) V (tw_ki (fun y5 s4 V => ?_))
      refine wq_if_eq (pc := 61) (tgt := 67) dX3_led_61 rfl (fun c => ?_) (fun c => ?_)
      · have V := V.1 c
        refine wq_iload_n (pc := 67) dX3_led_67 rfl rfl ?_
        refine wq_iload_n (pc := 68) dX3_led_68 rfl rfl ?_
        refine wq_icmp_ne (pc := 69) (tgt := 84) dX3_led_69 rfl (fun c => ?_) (fun c => ?_)
        · have V := V.1 c
          refine wq_iinc (L' := [some (.ref o), some (.int x1), some (.int (x2 + (1 : Int32))), some (.int x3), some (.int x4)]) (pc := 84) dX3_led_84 rfl (by rw [csti1]) (Nat.le_of_ble_eq_true rfl) rfl ?_
          refine wq_iinc (L' := [some (.ref o), some (.int x1), some (.int (x2 + (1 : Int32))), some (.int x3), some (.int (x4 + (1 : Int32)))]) (pc := 87) dX3_led_87 rfl (by rw [csti1]) (Nat.le_of_ble_eq_true rfl) rfl ?_
          refine wq_goto (pc := 90) (tgt := 24) dX3_led_90 rfl ?_
          exact V
        · have V := V.2 c
          refine wq_aload_n (pc := 72) dX3_led_72 rfl rfl ?_
          refine wq_iconst (pc := 73) dX3_led_73 csti0 ?_
          refine tp0 (pc := 74) rfl ok dX3_led_74 V (fun s6 V => ?_)
          refine wq_iconst (pc := 77) dX3_led_77 csti4 ?_
          refine wq_iload_n (pc := 78) dX3_led_78 rfl rfl ?_
          refine wq_imul (pc := 79) dX3_led_79 ?_
          refine wq_iload (pc := 80) dX3_led_80 rfl ?_
          refine wq_iadd (pc := 82) dX3_led_82 ?_
          refine wq_iret (pc := 83) dX3_led_83 rfl ⟨_, _, rfl, rfl, V⟩
      · have V := V.2 c
        refine wq_goto (pc := 64) (tgt := 87) dX3_led_64 rfl ?_
        refine wq_iinc (L' := [some (.ref o), some (.int x1), some (.int x2), some (.int x3), some (.int (x4 + (1 : Int32)))]) (pc := 87) dX3_led_87 rfl (by rw [csti1]) (Nat.le_of_ble_eq_true rfl) rfl ?_
        refine wq_goto (pc := 90) (tgt := 24) dX3_led_90 rfl ?_
        exact V
theorem vX3_size_0 {G : wq_G} {l : Launch} {o : Nat} {ad : Nat → Nat} {h : wq_H} {d : Nat} {K : Int32 → tw_S → Prop} (ok : tw_ok G o ad)  {x1 : Int32} {s : tw_S} (V : tw_pt s 0 (0 : Int32) (fun s1 => (¬ x1 = (10 : Int32) → (¬ (s1.1 14) = 0 → (x1.toInt < 0 ∨ 9 < x1.toInt → K (-1 : Int32) s1) ∧ (x1.toInt = 0 → tw_ld s1 15 (50 : Int32) (fun y2 => K y2 s1)) ∧ (x1.toInt = 1 → tw_ld s1 15 (51 : Int32) (fun y3 => K y3 s1)) ∧ (x1.toInt = 2 → tw_ld s1 15 (0 : Int32) (fun y4 => K y4 s1)) ∧ (x1.toInt = 3 → tw_ld s1 15 (52 : Int32) (fun y5 => K y5 s1)) ∧ (x1.toInt = 4 → tw_ld s1 15 (85 : Int32) (fun y6 => K y6 s1)) ∧ (x1.toInt = 5 → tw_ld s1 15 (158 : Int32) (fun y7 => K y7 s1)) ∧ (x1.toInt = 6 → tw_ld s1 15 (49 : Int32) (fun y8 => K y8 s1)) ∧ (x1.toInt = 7 → K (s1.1 24) s1) ∧ (x1.toInt = 8 → K (s1.1 25) s1) ∧ (x1.toInt = 9 → K (s1.1 26) s1)) ∧ ((s1.1 14) = 0 → tw_ci G l o ad h d mX3_within [.int x1, .int (0 : Int32), .int (9 : Int32)] s1 (fun y10 s9 => (y10 = 0 → K (-1 : Int32) s9) ∧ (¬ y10 = 0 → K (0 : Int32) s9)))) ∧ (x1 = (10 : Int32) → K (s1.1 2) s1))) : tw_T G l o ad h d mX3_size (tw_qi G o ad h K) 0 [some (.ref o), some (.int x1)] [] s := by
  refine wq_aload_n (pc := 0) dX3_size_0 rfl rfl ?_
  refine wq_iconst (pc := 1) dX3_size_1 csti0 ?_
  refine tp0 (pc := 2) rfl ok dX3_size_2 V (fun s1 V => ?_)
  refine wq_iload_n (pc := 5) dX3_size_5 rfl rfl ?_
  refine wq_bipush (pc := 6) dX3_size_6 cstb10 ?_
  refine wq_icmp_ne (pc := 8) (tgt := 16) dX3_size_8 rfl (fun c => ?_) (fun c => ?_)
  · have V := V.1 c
    refine wq_aload_n (pc := 16) dX3_size_16 rfl rfl ?_
    refine tg14 (pc := 17) rfl dX3_size_17 ?_
    refine wq_if_ne (pc := 20) (tgt := 39) dX3_size_20 rfl (fun c => ?_) (fun c => ?_)
    · have V := V.1 c
      refine wq_iload_n (pc := 39) dX3_size_39 rfl rfl ?_
      by_cases c : x1.toInt < 0 ∨ 9 < x1.toInt
      · refine wq_tableOut (pc := 40) (tgt := 167) dX3_size_40 c rfl ?_
        have V := V.1 c
        refine wq_iconst (pc := 167) dX3_size_167 cstim1 ?_
        refine wq_iret (pc := 168) dX3_size_168 rfl ⟨_, _, rfl, rfl, V⟩
      by_cases c0 : x1.toInt = 0
      · refine wq_tableIn (pc := 40) (off := 56) (tgt := 96) dX3_size_40 (by omega) (by omega) (by rw [c0]; rfl) rfl ?_
        have V := V.2.1 c0
        refine wq_aload_n (pc := 96) dX3_size_96 rfl rfl ?_
        refine tg15 (pc := 97) rfl dX3_size_97 ?_
        refine wq_bipush (pc := 100) dX3_size_100 cstb50 ?_
        refine tw_iald' (pc := 102) ok mia15 dX3_size_102 V (fun y2 V => ?_)
        refine wq_iret (pc := 103) dX3_size_103 rfl ⟨_, _, rfl, rfl, V⟩
      by_cases c1 : x1.toInt = 1
      · refine wq_tableIn (pc := 40) (off := 64) (tgt := 104) dX3_size_40 (by omega) (by omega) (by rw [c1]; rfl) rfl ?_
        have V := V.2.2.1 c1
        refine wq_aload_n (pc := 104) dX3_size_104 rfl rfl ?_
        refine tg15 (pc := 105) rfl dX3_size_105 ?_
        refine wq_bipush (pc := 108) dX3_size_108 cstb51 ?_
        refine tw_iald' (pc := 110) ok mia15 dX3_size_110 V (fun y3 V => ?_)
        refine wq_iret (pc := 111) dX3_size_111 rfl ⟨_, _, rfl, rfl, V⟩
      by_cases c2 : x1.toInt = 2
      · refine wq_tableIn (pc := 40) (off := 72) (tgt := 112) dX3_size_40 (by omega) (by omega) (by rw [c2]; rfl) rfl ?_
        have V := V.2.2.2.1 c2
        refine wq_aload_n (pc := 112) dX3_size_112 rfl rfl ?_
        refine tg15 (pc := 113) rfl dX3_size_113 ?_
        refine wq_iconst (pc := 116) dX3_size_116 csti0 ?_
        refine tw_iald' (pc := 117) ok mia15 dX3_size_117 V (fun y4 V => ?_)
        refine wq_iret (pc := 118) dX3_size_118 rfl ⟨_, _, rfl, rfl, V⟩
      by_cases c3 : x1.toInt = 3
      · refine wq_tableIn (pc := 40) (off := 79) (tgt := 119) dX3_size_40 (by omega) (by omega) (by rw [c3]; rfl) rfl ?_
        have V := V.2.2.2.2.1 c3
        refine wq_aload_n (pc := 119) dX3_size_119 rfl rfl ?_
        refine tg15 (pc := 120) rfl dX3_size_120 ?_
        refine wq_bipush (pc := 123) dX3_size_123 cstb52 ?_
        refine tw_iald' (pc := 125) ok mia15 dX3_size_125 V (fun y5 V => ?_)
        refine wq_iret (pc := 126) dX3_size_126 rfl ⟨_, _, rfl, rfl, V⟩
      by_cases c4 : x1.toInt = 4
      · refine wq_tableIn (pc := 40) (off := 87) (tgt := 127) dX3_size_40 (by omega) (by omega) (by rw [c4]; rfl) rfl ?_
        have V := V.2.2.2.2.2.1 c4
        refine wq_aload_n (pc := 127) dX3_size_127 rfl rfl ?_
        refine tg15 (pc := 128) rfl dX3_size_128 ?_
        refine wq_bipush (pc := 131) dX3_size_131 cstb85 ?_
        refine tw_iald' (pc := 133) ok mia15 dX3_size_133 V (fun y6 V => ?_)
        refine wq_iret (pc := 134) dX3_size_134 rfl ⟨_, _, rfl, rfl, V⟩
      by_cases c5 : x1.toInt = 5
      · refine wq_tableIn (pc := 40) (off := 95) (tgt := 135) dX3_size_40 (by omega) (by omega) (by rw [c5]; rfl) rfl ?_
        have V := V.2.2.2.2.2.2.1 c5
        refine wq_aload_n (pc := 135) dX3_size_135 rfl rfl ?_
        refine tg15 (pc := 136) rfl dX3_size_136 ?_
        refine wq_sipush (pc := 139) dX3_size_139 csts158 ?_
        refine tw_iald' (pc := 142) ok mia15 dX3_size_142 V (fun y7 V => ?_)
        refine wq_iret (pc := 143) dX3_size_143 rfl ⟨_, _, rfl, rfl, V⟩
      by_cases c6 : x1.toInt = 6
      · refine wq_tableIn (pc := 40) (off := 104) (tgt := 144) dX3_size_40 (by omega) (by omega) (by rw [c6]; rfl) rfl ?_
        have V := V.2.2.2.2.2.2.2.1 c6
        refine wq_aload_n (pc := 144) dX3_size_144 rfl rfl ?_
        refine tg15 (pc := 145) rfl dX3_size_145 ?_
        refine wq_bipush (pc := 148) dX3_size_148 cstb49 ?_
        refine tw_iald' (pc := 150) ok mia15 dX3_size_150 V (fun y8 V => ?_)
        refine wq_iret (pc := 151) dX3_size_151 rfl ⟨_, _, rfl, rfl, V⟩
      by_cases c7 : x1.toInt = 7
      · refine wq_tableIn (pc := 40) (off := 112) (tgt := 152) dX3_size_40 (by omega) (by omega) (by rw [c7]; rfl) rfl ?_
        have V := V.2.2.2.2.2.2.2.2.1 c7
        refine wq_aload_n (pc := 152) dX3_size_152 rfl rfl ?_
        refine tg24 (pc := 153) rfl dX3_size_153 ?_
        refine wq_iret (pc := 156) dX3_size_156 rfl ⟨_, _, rfl, rfl, V⟩
      by_cases c8 : x1.toInt = 8
      · refine wq_tableIn (pc := 40) (off := 117) (tgt := 157) dX3_size_40 (by omega) (by omega) (by rw [c8]; rfl) rfl ?_
        have V := V.2.2.2.2.2.2.2.2.2.1 c8
        refine wq_aload_n (pc := 157) dX3_size_157 rfl rfl ?_
        refine tg25 (pc := 158) rfl dX3_size_158 ?_
        refine wq_iret (pc := 161) dX3_size_161 rfl ⟨_, _, rfl, rfl, V⟩
      have c9 : x1.toInt = 9 := by omega
      · refine wq_tableIn (pc := 40) (off := 122) (tgt := 162) dX3_size_40 (by omega) (by omega) (by rw [c9]; rfl) rfl ?_
        have V := V.2.2.2.2.2.2.2.2.2.2 c9
        refine wq_aload_n (pc := 162) dX3_size_162 rfl rfl ?_
        refine tg26 (pc := 163) rfl dX3_size_163 ?_
        refine wq_iret (pc := 166) dX3_size_166 rfl ⟨_, _, rfl, rfl, V⟩
    · have V := V.2 c
      refine wq_iload_n (pc := 23) dX3_size_23 rfl rfl ?_
      refine wq_iconst (pc := 24) dX3_size_24 csti0 ?_
      refine wq_bipush (pc := 25) dX3_size_25 cstb9 ?_
      refine tcq1840 (pc := 27) (As := [.int x1, .int (0 : Int32), .int (9 : Int32)]) (st := []) rfl dX3_size_27 rfl (Nat.le_of_ble_eq_true rfl) V (tw_ki (fun y10 s9 V => ?_))
      refine wq_if_eq (pc := 30) (tgt := 37) dX3_size_30 rfl (fun c => ?_) (fun c => ?_)
      · have V := V.1 c
        refine wq_iconst (pc := 37) dX3_size_37 cstim1 ?_
        refine wq_iret (pc := 38) dX3_size_38 rfl ⟨_, _, rfl, rfl, V⟩
      · have V := V.2 c
        refine wq_iconst (pc := 33) dX3_size_33 csti0 ?_
        refine wq_goto (pc := 34) (tgt := 38) dX3_size_34 rfl ?_
        refine wq_iret (pc := 38) dX3_size_38 rfl ⟨_, _, rfl, rfl, V⟩
  · have V := V.2 c
    refine wq_aload_n (pc := 11) dX3_size_11 rfl rfl ?_
    refine tg2 (pc := 12) rfl dX3_size_12 ?_
    refine wq_iret (pc := 15) dX3_size_15 rfl ⟨_, _, rfl, rfl, V⟩
theorem vX3_trouble_0 {G : wq_G} {l : Launch} {o : Nat} {ad : Nat → Nat} {h : wq_H} {d : Nat} {K : Int32 → tw_S → Prop} (ok : tw_ok G o ad)   {s : tw_S} (V : tw_pt s 0 (0 : Int32) (fun s1 => K (s1.1 11) s1)) : tw_T G l o ad h d mX3_trouble (tw_qi G o ad h K) 0 [some (.ref o)] [] s := by
  refine wq_aload_n (pc := 0) dX3_trouble_0 rfl rfl ?_
  refine wq_iconst (pc := 1) dX3_trouble_1 csti0 ?_
  refine tp0 (pc := 2) rfl ok dX3_trouble_2 V (fun s1 V => ?_)
  refine wq_aload_n (pc := 5) dX3_trouble_5 rfl rfl ?_
  refine tg11 (pc := 6) rfl dX3_trouble_6 ?_
  refine wq_iret (pc := 9) dX3_trouble_9 rfl ⟨_, _, rfl, rfl, V⟩
