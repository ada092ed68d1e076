/-! DictProofModel: functions and walks, printed by gen/run6.py -/
set_option maxRecDepth 100000
theorem fP_X6_7i : FldP RX6 7 [(6, 2)] (.array .int) true := List.forall_mem_cons.mpr ⟨⟨RX6, TX6, 63, "DictProofModel", tyX6, rfl, in_X6, by decide, q1407, Or.inl rfl, tyX6_ok, nmX6, rfl, Or.inr ⟨rfl, rfl, rfl⟩, by decide⟩, fun _ h => absurd h List.not_mem_nil⟩
theorem fP_X6_13i : FldP RX6 13 [(6, 3)] (.array .int) true := List.forall_mem_cons.mpr ⟨⟨RX6, TX6, 63, "DictProofModel", tyX6, rfl, in_X6, by decide, q1408, Or.inl rfl, tyX6_ok, nmX6, rfl, Or.inr ⟨rfl, rfl, rfl⟩, by decide⟩, fun _ h => absurd h List.not_mem_nil⟩
theorem fP_X6_16i : FldP RX6 16 [(6, 5)] (.array .int) true := List.forall_mem_cons.mpr ⟨⟨RX6, TX6, 63, "DictProofModel", tyX6, rfl, in_X6, by decide, q1410, Or.inl rfl, tyX6_ok, nmX6, rfl, Or.inr ⟨rfl, rfl, rfl⟩, by decide⟩, fun _ h => absurd h List.not_mem_nil⟩
theorem fP_X6_19i : FldP RX6 19 [(6, 6)] (.array .int) true := List.forall_mem_cons.mpr ⟨⟨RX6, TX6, 63, "DictProofModel", tyX6, rfl, in_X6, by decide, q1411, Or.inl rfl, tyX6_ok, nmX6, rfl, Or.inr ⟨rfl, rfl, rfl⟩, by decide⟩, fun _ h => absurd h List.not_mem_nil⟩
theorem fP_X6_22i : FldP RX6 22 [(6, 7)] (.array .int) true := List.forall_mem_cons.mpr ⟨⟨RX6, TX6, 63, "DictProofModel", tyX6, rfl, in_X6, by decide, q1412, Or.inl rfl, tyX6_ok, nmX6, rfl, Or.inr ⟨rfl, rfl, rfl⟩, by decide⟩, fun _ h => absurd h List.not_mem_nil⟩
theorem fP_X6_25i : FldP RX6 25 [(6, 8)] (.array .int) true := List.forall_mem_cons.mpr ⟨⟨RX6, TX6, 63, "DictProofModel", tyX6, rfl, in_X6, by decide, q1413, Or.inl rfl, tyX6_ok, nmX6, rfl, Or.inr ⟨rfl, rfl, rfl⟩, by decide⟩, fun _ h => absurd h List.not_mem_nil⟩
theorem fP_X6_28i : FldP RX6 28 [(6, 9)] (.array .int) true := List.forall_mem_cons.mpr ⟨⟨RX6, TX6, 63, "DictProofModel", tyX6, rfl, in_X6, by decide, q1414, Or.inl rfl, tyX6_ok, nmX6, rfl, Or.inr ⟨rfl, rfl, rfl⟩, by decide⟩, fun _ h => absurd h List.not_mem_nil⟩
theorem fP_X6_31i : FldP RX6 31 [(6, 10)] (.array .int) true := List.forall_mem_cons.mpr ⟨⟨RX6, TX6, 63, "DictProofModel", tyX6, rfl, in_X6, by decide, q1415, Or.inl rfl, tyX6_ok, nmX6, rfl, Or.inr ⟨rfl, rfl, rfl⟩, by decide⟩, fun _ h => absurd h List.not_mem_nil⟩
theorem fP_X6_34i : FldP RX6 34 [(6, 11)] (.array .int) true := List.forall_mem_cons.mpr ⟨⟨RX6, TX6, 63, "DictProofModel", tyX6, rfl, in_X6, by decide, q1416, Or.inl rfl, tyX6_ok, nmX6, rfl, Or.inr ⟨rfl, rfl, rfl⟩, by decide⟩, fun _ h => absurd h List.not_mem_nil⟩
theorem fP_X6_37i : FldP RX6 37 [(6, 12)] (.array .int) true := List.forall_mem_cons.mpr ⟨⟨RX6, TX6, 63, "DictProofModel", tyX6, rfl, in_X6, by decide, q1417, Or.inl rfl, tyX6_ok, nmX6, rfl, Or.inr ⟨rfl, rfl, rfl⟩, by decide⟩, fun _ h => absurd h List.not_mem_nil⟩
theorem fP_X6_40i : FldP RX6 40 [(6, 13)] (.array .int) true := List.forall_mem_cons.mpr ⟨⟨RX6, TX6, 63, "DictProofModel", tyX6, rfl, in_X6, by decide, q1418, Or.inl rfl, tyX6_ok, nmX6, rfl, Or.inr ⟨rfl, rfl, rfl⟩, by decide⟩, fun _ h => absurd h List.not_mem_nil⟩
theorem fP_X6_43i : FldP RX6 43 [(6, 14)] (.array .int) true := List.forall_mem_cons.mpr ⟨⟨RX6, TX6, 63, "DictProofModel", tyX6, rfl, in_X6, by decide, q1419, Or.inl rfl, tyX6_ok, nmX6, rfl, Or.inr ⟨rfl, rfl, rfl⟩, by decide⟩, fun _ h => absurd h List.not_mem_nil⟩
theorem fP_X6_46i : FldP RX6 46 [(6, 16)] (.array .int) true := List.forall_mem_cons.mpr ⟨⟨RX6, TX6, 63, "DictProofModel", tyX6, rfl, in_X6, by decide, q1421, Or.inl rfl, tyX6_ok, nmX6, rfl, Or.inr ⟨rfl, rfl, rfl⟩, by decide⟩, fun _ h => absurd h List.not_mem_nil⟩
theorem fP_X6_49i : FldP RX6 49 [(6, 17)] (.array .int) true := List.forall_mem_cons.mpr ⟨⟨RX6, TX6, 63, "DictProofModel", tyX6, rfl, in_X6, by decide, q1422, Or.inl rfl, tyX6_ok, nmX6, rfl, Or.inr ⟨rfl, rfl, rfl⟩, by decide⟩, fun _ h => absurd h List.not_mem_nil⟩
theorem fP_X6_52i : FldP RX6 52 [(6, 18)] (.array .int) true := List.forall_mem_cons.mpr ⟨⟨RX6, TX6, 63, "DictProofModel", tyX6, rfl, in_X6, by decide, q1423, Or.inl rfl, tyX6_ok, nmX6, rfl, Or.inr ⟨rfl, rfl, rfl⟩, by decide⟩, fun _ h => absurd h List.not_mem_nil⟩
theorem fP_X6_55i : FldP RX6 55 [(6, 20)] (.array .byte) true := List.forall_mem_cons.mpr ⟨⟨RX6, TX6, 63, "DictProofModel", tyX6, rfl, in_X6, by decide, q1425, Or.inl rfl, tyX6_ok, nmX6, rfl, Or.inr ⟨rfl, rfl, rfl⟩, by decide⟩, fun _ h => absurd h List.not_mem_nil⟩
theorem fP_X6_59i : FldP RX6 59 [(6, 25)] (.array .int) true := List.forall_mem_cons.mpr ⟨⟨RX6, TX6, 63, "DictProofModel", tyX6, rfl, in_X6, by decide, q1430, Or.inl rfl, tyX6_ok, nmX6, rfl, Or.inr ⟨rfl, rfl, rfl⟩, by decide⟩, fun _ h => absurd h List.not_mem_nil⟩
theorem fP_X6_62i : FldP RX6 62 [(6, 26)] (.array .int) true := List.forall_mem_cons.mpr ⟨⟨RX6, TX6, 63, "DictProofModel", tyX6, rfl, in_X6, by decide, q1431, Or.inl rfl, tyX6_ok, nmX6, rfl, Or.inr ⟨rfl, rfl, rfl⟩, by decide⟩, fun _ h => absurd h List.not_mem_nil⟩
theorem fP_X6_65i : FldP RX6 65 [(6, 27)] (.array .int) true := List.forall_mem_cons.mpr ⟨⟨RX6, TX6, 63, "DictProofModel", tyX6, rfl, in_X6, by decide, q1432, Or.inl rfl, tyX6_ok, nmX6, rfl, Or.inr ⟨rfl, rfl, rfl⟩, by decide⟩, fun _ h => absurd h List.not_mem_nil⟩
theorem fP_X6_68i : FldP RX6 68 [(6, 28)] (.array .int) true := List.forall_mem_cons.mpr ⟨⟨RX6, TX6, 63, "DictProofModel", tyX6, rfl, in_X6, by decide, q1433, Or.inl rfl, tyX6_ok, nmX6, rfl, Or.inr ⟨rfl, rfl, rfl⟩, by decide⟩, fun _ h => absurd h List.not_mem_nil⟩
theorem fP_X6_71i : FldP RX6 71 [(6, 29)] (.array .int) true := List.forall_mem_cons.mpr ⟨⟨RX6, TX6, 63, "DictProofModel", tyX6, rfl, in_X6, by decide, q1434, Or.inl rfl, tyX6_ok, nmX6, rfl, Or.inr ⟨rfl, rfl, rfl⟩, by decide⟩, fun _ h => absurd h List.not_mem_nil⟩
theorem fP_X6_74i : FldP RX6 74 [(6, 30)] (.array .int) true := List.forall_mem_cons.mpr ⟨⟨RX6, TX6, 63, "DictProofModel", tyX6, rfl, in_X6, by decide, q1435, Or.inl rfl, tyX6_ok, nmX6, rfl, Or.inr ⟨rfl, rfl, rfl⟩, by decide⟩, fun _ h => absurd h List.not_mem_nil⟩
theorem fP_X6_77i : FldP RX6 77 [(6, 31)] (.array .int) true := List.forall_mem_cons.mpr ⟨⟨RX6, TX6, 63, "DictProofModel", tyX6, rfl, in_X6, by decide, q1436, Or.inl rfl, tyX6_ok, nmX6, rfl, Or.inr ⟨rfl, rfl, rfl⟩, by decide⟩, fun _ h => absurd h List.not_mem_nil⟩
theorem fP_X6_80i : FldP RX6 80 [(6, 32)] (.array .int) true := List.forall_mem_cons.mpr ⟨⟨RX6, TX6, 63, "DictProofModel", tyX6, rfl, in_X6, by decide, q1437, Or.inl rfl, tyX6_ok, nmX6, rfl, Or.inr ⟨rfl, rfl, rfl⟩, by decide⟩, fun _ h => absurd h List.not_mem_nil⟩
theorem fP_X6_83i : FldP RX6 83 [(6, 33)] (.array .int) true := List.forall_mem_cons.mpr ⟨⟨RX6, TX6, 63, "DictProofModel", tyX6, rfl, in_X6, by decide, q1438, Or.inl rfl, tyX6_ok, nmX6, rfl, Or.inr ⟨rfl, rfl, rfl⟩, by decide⟩, fun _ h => absurd h List.not_mem_nil⟩
theorem fP_X6_86i : FldP RX6 86 [(6, 35)] (.array .int) true := List.forall_mem_cons.mpr ⟨⟨RX6, TX6, 63, "DictProofModel", tyX6, rfl, in_X6, by decide, q1440, Or.inl rfl, tyX6_ok, nmX6, rfl, Or.inr ⟨rfl, rfl, rfl⟩, by decide⟩, fun _ h => absurd h List.not_mem_nil⟩
theorem fP_X6_89i : FldP RX6 89 [(6, 36)] (.array .int) true := List.forall_mem_cons.mpr ⟨⟨RX6, TX6, 63, "DictProofModel", tyX6, rfl, in_X6, by decide, q1441, Or.inl rfl, tyX6_ok, nmX6, rfl, Or.inr ⟨rfl, rfl, rfl⟩, by decide⟩, fun _ h => absurd h List.not_mem_nil⟩
theorem fP_X6_92i : FldP RX6 92 [(6, 37)] (.array .int) true := List.forall_mem_cons.mpr ⟨⟨RX6, TX6, 63, "DictProofModel", tyX6, rfl, in_X6, by decide, q1442, Or.inl rfl, tyX6_ok, nmX6, rfl, Or.inr ⟨rfl, rfl, rfl⟩, by decide⟩, fun _ h => absurd h List.not_mem_nil⟩
theorem fP_X6_95i : FldP RX6 95 [(6, 38)] (.array .int) true := List.forall_mem_cons.mpr ⟨⟨RX6, TX6, 63, "DictProofModel", tyX6, rfl, in_X6, by decide, q1443, Or.inl rfl, tyX6_ok, nmX6, rfl, Or.inr ⟨rfl, rfl, rfl⟩, by decide⟩, fun _ h => absurd h List.not_mem_nil⟩
theorem fP_X6_98i : FldP RX6 98 [(6, 39)] (.array .int) true := List.forall_mem_cons.mpr ⟨⟨RX6, TX6, 63, "DictProofModel", tyX6, rfl, in_X6, by decide, q1444, Or.inl rfl, tyX6_ok, nmX6, rfl, Or.inr ⟨rfl, rfl, rfl⟩, by decide⟩, fun _ h => absurd h List.not_mem_nil⟩
theorem fP_X6_101i : FldP RX6 101 [(6, 40)] (.array .int) true := List.forall_mem_cons.mpr ⟨⟨RX6, TX6, 63, "DictProofModel", tyX6, rfl, in_X6, by decide, q1445, Or.inl rfl, tyX6_ok, nmX6, rfl, Or.inr ⟨rfl, rfl, rfl⟩, by decide⟩, fun _ h => absurd h List.not_mem_nil⟩
theorem fP_X6_104i : FldP RX6 104 [(6, 41)] (.array .int) true := List.forall_mem_cons.mpr ⟨⟨RX6, TX6, 63, "DictProofModel", tyX6, rfl, in_X6, by decide, q1446, Or.inl rfl, tyX6_ok, nmX6, rfl, Or.inr ⟨rfl, rfl, rfl⟩, by decide⟩, fun _ h => absurd h List.not_mem_nil⟩
theorem fP_X6_107i : FldP RX6 107 [(6, 42)] (.array .int) true := List.forall_mem_cons.mpr ⟨⟨RX6, TX6, 63, "DictProofModel", tyX6, rfl, in_X6, by decide, q1447, Or.inl rfl, tyX6_ok, nmX6, rfl, Or.inr ⟨rfl, rfl, rfl⟩, by decide⟩, fun _ h => absurd h List.not_mem_nil⟩
theorem fP_X6_110i : FldP RX6 110 [(6, 43)] (.array .int) true := List.forall_mem_cons.mpr ⟨⟨RX6, TX6, 63, "DictProofModel", tyX6, rfl, in_X6, by decide, q1448, Or.inl rfl, tyX6_ok, nmX6, rfl, Or.inr ⟨rfl, rfl, rfl⟩, by decide⟩, fun _ h => absurd h List.not_mem_nil⟩
theorem fP_X6_113i : FldP RX6 113 [(6, 44)] (.array .int) true := List.forall_mem_cons.mpr ⟨⟨RX6, TX6, 63, "DictProofModel", tyX6, rfl, in_X6, by decide, q1449, Or.inl rfl, tyX6_ok, nmX6, rfl, Or.inr ⟨rfl, rfl, rfl⟩, by decide⟩, fun _ h => absurd h List.not_mem_nil⟩
theorem fP_X6_116i : FldP RX6 116 [(6, 47)] (.array .int) true := List.forall_mem_cons.mpr ⟨⟨RX6, TX6, 63, "DictProofModel", tyX6, rfl, in_X6, by decide, q1452, Or.inl rfl, tyX6_ok, nmX6, rfl, Or.inr ⟨rfl, rfl, rfl⟩, by decide⟩, fun _ h => absurd h List.not_mem_nil⟩
theorem fP_X6_119i : FldP RX6 119 [(6, 48)] (.array .int) true := List.forall_mem_cons.mpr ⟨⟨RX6, TX6, 63, "DictProofModel", tyX6, rfl, in_X6, by decide, q1453, Or.inl rfl, tyX6_ok, nmX6, rfl, Or.inr ⟨rfl, rfl, rfl⟩, by decide⟩, fun _ h => absurd h List.not_mem_nil⟩
theorem fP_X6_122i : FldP RX6 122 [(6, 49)] (.array .int) true := List.forall_mem_cons.mpr ⟨⟨RX6, TX6, 63, "DictProofModel", tyX6, rfl, in_X6, by decide, q1454, Or.inl rfl, tyX6_ok, nmX6, rfl, Or.inr ⟨rfl, rfl, rfl⟩, by decide⟩, fun _ h => absurd h List.not_mem_nil⟩
theorem fP_X6_125i : FldP RX6 125 [(6, 51)] (.array .int) true := List.forall_mem_cons.mpr ⟨⟨RX6, TX6, 63, "DictProofModel", tyX6, rfl, in_X6, by decide, q1456, Or.inl rfl, tyX6_ok, nmX6, rfl, Or.inr ⟨rfl, rfl, rfl⟩, by decide⟩, fun _ h => absurd h List.not_mem_nil⟩
theorem fP_X6_128i : FldP RX6 128 [(6, 56)] (.array .int) true := List.forall_mem_cons.mpr ⟨⟨RX6, TX6, 63, "DictProofModel", tyX6, rfl, in_X6, by decide, q1461, Or.inl rfl, tyX6_ok, nmX6, rfl, Or.inr ⟨rfl, rfl, rfl⟩, by decide⟩, fun _ h => absurd h List.not_mem_nil⟩
theorem fP_X6_131i : FldP RX6 131 [(6, 57)] (.array .int) true := List.forall_mem_cons.mpr ⟨⟨RX6, TX6, 63, "DictProofModel", tyX6, rfl, in_X6, by decide, q1462, Or.inl rfl, tyX6_ok, nmX6, rfl, Or.inr ⟨rfl, rfl, rfl⟩, by decide⟩, fun _ h => absurd h List.not_mem_nil⟩
theorem fP_X6_134i : FldP RX6 134 [(6, 58)] (.array .int) true := List.forall_mem_cons.mpr ⟨⟨RX6, TX6, 63, "DictProofModel", tyX6, rfl, in_X6, by decide, q1463, Or.inl rfl, tyX6_ok, nmX6, rfl, Or.inr ⟨rfl, rfl, rfl⟩, by decide⟩, fun _ h => absurd h List.not_mem_nil⟩
theorem fP_X6_137i : FldP RX6 137 [(6, 59)] (.array .int) true := List.forall_mem_cons.mpr ⟨⟨RX6, TX6, 63, "DictProofModel", tyX6, rfl, in_X6, by decide, q1464, Or.inl rfl, tyX6_ok, nmX6, rfl, Or.inr ⟨rfl, rfl, rfl⟩, by decide⟩, fun _ h => absurd h List.not_mem_nil⟩
theorem fP_X6_140i : FldP RX6 140 [(6, 60)] (.array .int) true := List.forall_mem_cons.mpr ⟨⟨RX6, TX6, 63, "DictProofModel", tyX6, rfl, in_X6, by decide, q1465, Or.inl rfl, tyX6_ok, nmX6, rfl, Or.inr ⟨rfl, rfl, rfl⟩, by decide⟩, fun _ h => absurd h List.not_mem_nil⟩
theorem fP_X6_143i : FldP RX6 143 [(6, 61)] (.array .int) true := List.forall_mem_cons.mpr ⟨⟨RX6, TX6, 63, "DictProofModel", tyX6, rfl, in_X6, by decide, q1466, Or.inl rfl, tyX6_ok, nmX6, rfl, Or.inr ⟨rfl, rfl, rfl⟩, by decide⟩, fun _ h => absurd h List.not_mem_nil⟩
def fX6_init  (h : hS) (o0 : Option Nat) : Option (hS) := gd (¬ o0 = none) (bd (nwAS h 0 4) fun p2 => bd (hW p2.2 o0 [(6, 2)] (vq (some p2.1))) fun h5 => bd (nwAS h5 0 4) fun p8 => bd (hW p8.2 o0 [(6, 3)] (vq (some p8.1))) fun h11 => bd (nwAS h11 0 6) fun p14 => bd (hW p14.2 o0 [(6, 5)] (vq (some p14.1))) fun h17 => bd (nwAS h17 0 6) fun p20 => bd (hW p20.2 o0 [(6, 6)] (vq (some p20.1))) fun h23 => bd (nwAS h23 0 30) fun p26 => bd (hW p26.2 o0 [(6, 7)] (vq (some p26.1))) fun h29 => bd (nwAS h29 0 6) fun p32 => bd (hW p32.2 o0 [(6, 8)] (vq (some p32.1))) fun h35 => bd (nwAS h35 0 6) fun p38 => bd (hW p38.2 o0 [(6, 9)] (vq (some p38.1))) fun h41 => bd (nwAS h41 0 12) fun p44 => bd (hW p44.2 o0 [(6, 10)] (vq (some p44.1))) fun h47 => bd (nwAS h47 0 12) fun p50 => bd (hW p50.2 o0 [(6, 11)] (vq (some p50.1))) fun h53 => bd (nwAS h53 0 36) fun p56 => bd (hW p56.2 o0 [(6, 12)] (vq (some p56.1))) fun h59 => bd (nwAS h59 0 36) fun p62 => bd (hW p62.2 o0 [(6, 13)] (vq (some p62.1))) fun h65 => bd (nwAS h65 0 4) fun p68 => bd (hW p68.2 o0 [(6, 14)] (vq (some p68.1))) fun h71 => bd (nwAS h71 0 6) fun p74 => bd (hW p74.2 o0 [(6, 16)] (vq (some p74.1))) fun h77 => bd (nwAS h77 0 6) fun p80 => bd (hW p80.2 o0 [(6, 17)] (vq (some p80.1))) fun h83 => bd (nwAS h83 0 6) fun p86 => bd (hW p86.2 o0 [(6, 18)] (vq (some p86.1))) fun h89 => bd (nwAS h89 2 84) fun p92 => bd (hW p92.2 o0 [(6, 20)] (vq (some p92.1))) fun h95 => bd (nwAS h95 0 4) fun p98 => bd (hW p98.2 o0 [(6, 25)] (vq (some p98.1))) fun h101 => bd (nwAS h101 0 6) fun p104 => bd (hW p104.2 o0 [(6, 26)] (vq (some p104.1))) fun h107 => bd (nwAS h107 0 6) fun p110 => bd (hW p110.2 o0 [(6, 27)] (vq (some p110.1))) fun h113 => bd (nwAS h113 0 6) fun p116 => bd (hW p116.2 o0 [(6, 28)] (vq (some p116.1))) fun h119 => bd (nwAS h119 0 6) fun p122 => bd (hW p122.2 o0 [(6, 29)] (vq (some p122.1))) fun h125 => bd (nwAS h125 0 6) fun p128 => bd (hW p128.2 o0 [(6, 30)] (vq (some p128.1))) fun h131 => bd (nwAS h131 0 12) fun p134 => bd (hW p134.2 o0 [(6, 31)] (vq (some p134.1))) fun h137 => bd (nwAS h137 0 9) fun p140 => bd (hW p140.2 o0 [(6, 32)] (vq (some p140.1))) fun h143 => bd (nwAS h143 0 9) fun p146 => bd (hW p146.2 o0 [(6, 33)] (vq (some p146.1))) fun h149 => bd (nwAS h149 0 2) fun p152 => bd (hW p152.2 o0 [(6, 35)] (vq (some p152.1))) fun h155 => bd (nwAS h155 0 36) fun p158 => bd (hW p158.2 o0 [(6, 36)] (vq (some p158.1))) fun h161 => bd (nwAS h161 0 36) fun p164 => bd (hW p164.2 o0 [(6, 37)] (vq (some p164.1))) fun h167 => bd (nwAS h167 0 36) fun p170 => bd (hW p170.2 o0 [(6, 38)] (vq (some p170.1))) fun h173 => bd (nwAS h173 0 36) fun p176 => bd (hW p176.2 o0 [(6, 39)] (vq (some p176.1))) fun h179 => bd (nwAS h179 0 36) fun p182 => bd (hW p182.2 o0 [(6, 40)] (vq (some p182.1))) fun h185 => bd (nwAS h185 0 36) fun p188 => bd (hW p188.2 o0 [(6, 41)] (vq (some p188.1))) fun h191 => bd (nwAS h191 0 36) fun p194 => bd (hW p194.2 o0 [(6, 42)] (vq (some p194.1))) fun h197 => bd (nwAS h197 0 36) fun p200 => bd (hW p200.2 o0 [(6, 43)] (vq (some p200.1))) fun h203 => bd (nwAS h203 0 36) fun p206 => bd (hW p206.2 o0 [(6, 44)] (vq (some p206.1))) fun h209 => bd (nwAS h209 0 4) fun p212 => bd (hW p212.2 o0 [(6, 47)] (vq (some p212.1))) fun h215 => bd (nwAS h215 0 64) fun p218 => bd (hW p218.2 o0 [(6, 48)] (vq (some p218.1))) fun h221 => bd (nwAS h221 0 64) fun p224 => bd (hW p224.2 o0 [(6, 49)] (vq (some p224.1))) fun h227 => bd (nwAS h227 0 64) fun p230 => bd (hW p230.2 o0 [(6, 51)] (vq (some p230.1))) fun h233 => bd (nwAS h233 0 6) fun p236 => bd (hW p236.2 o0 [(6, 56)] (vq (some p236.1))) fun h239 => bd (nwAS h239 0 36) fun p242 => bd (hW p242.2 o0 [(6, 57)] (vq (some p242.1))) fun h245 => bd (nwAS h245 0 4) fun p248 => bd (hW p248.2 o0 [(6, 58)] (vq (some p248.1))) fun h251 => bd (nwAS h251 0 6) fun p254 => bd (hW p254.2 o0 [(6, 59)] (vq (some p254.1))) fun h257 => bd (nwAS h257 0 6) fun p260 => bd (hW p260.2 o0 [(6, 60)] (vq (some p260.1))) fun h263 => bd (nwAS h263 0 6) fun p266 => bd (hW p266.2 o0 [(6, 61)] (vq (some p266.1))) fun h269 => some h269)
theorem kX6_init {G : Gx}  {h' : hS} {h : hS} {o0 : Option Nat}   (e : fX6_init h o0 = some (h')) : CtX G yX6_init cX6_init 1 none 1 20 [] [] h [tr o0] none [] h' := by
  refine CtX.of (by decide) (Nat.le_of_ble_eq_true rfl) [(0, tr o0)] rfl ?_
  have E : EndX (G, 1, [], h, [], h', none, none, yX6_init.name) [] 1 none none [] h' := ⟨rfl, rfl, rfl, rfl, rfl, rfl⟩
  unfold fX6_init at e
  refine r_rrs E.p (fun rr => ?_)
  refine r_aload_n dX6_init_0 rfl 0 rfl ?_
  obtain ⟨g1, e⟩ := gd_o e
  refine r_objInitO g1 q1404 q150 q151 (Nat.le_of_ble_eq_true rfl) (Nat.le_of_ble_eq_true rfl) (Nat.le_of_ble_eq_true rfl) dX6_init_1 ?_
  refine r_aload_n dX6_init_4 rfl 0 rfl ?_
  refine r_iconst dX6_init_5 ?_
  obtain ⟨p2, q3, e⟩ := bd_o e
  refine r_newAS q3 (by decide) rfl q194 dX6_init_6 ?_
  refine r_rrs E.p (fun rr4 => ?_)
  obtain ⟨h5, q6, e⟩ := bd_o e
  refine r_put (v := vq (some p2.1)) fP_X6_7i (by first | exact fun q => absurd q (by decide) | exact fun _ => rfl) trivial q6 dX6_init_8 ?_
  refine r_rrs E.p (fun rr7 => ?_)
  refine r_aload_n dX6_init_11 rfl 0 rfl ?_
  refine r_iconst dX6_init_12 ?_
  obtain ⟨p8, q9, e⟩ := bd_o e
  refine r_newAS q9 (by decide) rfl q194 dX6_init_13 ?_
  refine r_rrs E.p (fun rr10 => ?_)
  obtain ⟨h11, q12, e⟩ := bd_o e
  refine r_put (v := vq (some p8.1)) fP_X6_13i (by first | exact fun q => absurd q (by decide) | exact fun _ => rfl) trivial q12 dX6_init_15 ?_
  refine r_rrs E.p (fun rr13 => ?_)
  refine r_aload_n dX6_init_18 rfl 0 rfl ?_
  refine r_bipush dX6_init_19 (by decide) ?_
  obtain ⟨p14, q15, e⟩ := bd_o e
  refine r_newAS q15 (by decide) rfl q194 dX6_init_21 ?_
  refine r_rrs E.p (fun rr16 => ?_)
  obtain ⟨h17, q18, e⟩ := bd_o e
  refine r_put (v := vq (some p14.1)) fP_X6_16i (by first | exact fun q => absurd q (by decide) | exact fun _ => rfl) trivial q18 dX6_init_23 ?_
  refine r_rrs E.p (fun rr19 => ?_)
  refine r_aload_n dX6_init_26 rfl 0 rfl ?_
  refine r_bipush dX6_init_27 (by decide) ?_
  obtain ⟨p20, q21, e⟩ := bd_o e
  refine r_newAS q21 (by decide) rfl q194 dX6_init_29 ?_
  refine r_rrs E.p (fun rr22 => ?_)
  obtain ⟨h23, q24, e⟩ := bd_o e
  refine r_put (v := vq (some p20.1)) fP_X6_19i (by first | exact fun q => absurd q (by decide) | exact fun _ => rfl) trivial q24 dX6_init_31 ?_
  refine r_rrs E.p (fun rr25 => ?_)
  refine r_aload_n dX6_init_34 rfl 0 rfl ?_
  refine r_bipush dX6_init_35 (by decide) ?_
  obtain ⟨p26, q27, e⟩ := bd_o e
  refine r_newAS q27 (by decide) rfl q194 dX6_init_37 ?_
  refine r_rrs E.p (fun rr28 => ?_)
  obtain ⟨h29, q30, e⟩ := bd_o e
  refine r_put (v := vq (some p26.1)) fP_X6_22i (by first | exact fun q => absurd q (by decide) | exact fun _ => rfl) trivial q30 dX6_init_39 ?_
  refine r_rrs E.p (fun rr31 => ?_)
  refine r_aload_n dX6_init_42 rfl 0 rfl ?_
  refine r_bipush dX6_init_43 (by decide) ?_
  obtain ⟨p32, q33, e⟩ := bd_o e
  refine r_newAS q33 (by decide) rfl q194 dX6_init_45 ?_
  refine r_rrs E.p (fun rr34 => ?_)
  obtain ⟨h35, q36, e⟩ := bd_o e
  refine r_put (v := vq (some p32.1)) fP_X6_25i (by first | exact fun q => absurd q (by decide) | exact fun _ => rfl) trivial q36 dX6_init_47 ?_
  refine r_rrs E.p (fun rr37 => ?_)
  refine r_aload_n dX6_init_50 rfl 0 rfl ?_
  refine r_bipush dX6_init_51 (by decide) ?_
  obtain ⟨p38, q39, e⟩ := bd_o e
  refine r_newAS q39 (by decide) rfl q194 dX6_init_53 ?_
  refine r_rrs E.p (fun rr40 => ?_)
  obtain ⟨h41, q42, e⟩ := bd_o e
  refine r_put (v := vq (some p38.1)) fP_X6_28i (by first | exact fun q => absurd q (by decide) | exact fun _ => rfl) trivial q42 dX6_init_55 ?_
  refine r_rrs E.p (fun rr43 => ?_)
  refine r_aload_n dX6_init_58 rfl 0 rfl ?_
  refine r_bipush dX6_init_59 (by decide) ?_
  obtain ⟨p44, q45, e⟩ := bd_o e
  refine r_newAS q45 (by decide) rfl q194 dX6_init_61 ?_
  refine r_rrs E.p (fun rr46 => ?_)
  obtain ⟨h47, q48, e⟩ := bd_o e
  refine r_put (v := vq (some p44.1)) fP_X6_31i (by first | exact fun q => absurd q (by decide) | exact fun _ => rfl) trivial q48 dX6_init_63 ?_
  refine r_rrs E.p (fun rr49 => ?_)
  refine r_aload_n dX6_init_66 rfl 0 rfl ?_
  refine r_bipush dX6_init_67 (by decide) ?_
  obtain ⟨p50, q51, e⟩ := bd_o e
  refine r_newAS q51 (by decide) rfl q194 dX6_init_69 ?_
  refine r_rrs E.p (fun rr52 => ?_)
  obtain ⟨h53, q54, e⟩ := bd_o e
  refine r_put (v := vq (some p50.1)) fP_X6_34i (by first | exact fun q => absurd q (by decide) | exact fun _ => rfl) trivial q54 dX6_init_71 ?_
  refine r_rrs E.p (fun rr55 => ?_)
  refine r_aload_n dX6_init_74 rfl 0 rfl ?_
  refine r_bipush dX6_init_75 (by decide) ?_
  obtain ⟨p56, q57, e⟩ := bd_o e
  refine r_newAS q57 (by decide) rfl q194 dX6_init_77 ?_
  refine r_rrs E.p (fun rr58 => ?_)
  obtain ⟨h59, q60, e⟩ := bd_o e
  refine r_put (v := vq (some p56.1)) fP_X6_37i (by first | exact fun q => absurd q (by decide) | exact fun _ => rfl) trivial q60 dX6_init_79 ?_
  refine r_rrs E.p (fun rr61 => ?_)
  refine r_aload_n dX6_init_82 rfl 0 rfl ?_
  refine r_bipush dX6_init_83 (by decide) ?_
  obtain ⟨p62, q63, e⟩ := bd_o e
  refine r_newAS q63 (by decide) rfl q194 dX6_init_85 ?_
  refine r_rrs E.p (fun rr64 => ?_)
  obtain ⟨h65, q66, e⟩ := bd_o e
  refine r_put (v := vq (some p62.1)) fP_X6_40i (by first | exact fun q => absurd q (by decide) | exact fun _ => rfl) trivial q66 dX6_init_87 ?_
  refine r_rrs E.p (fun rr67 => ?_)
  refine r_aload_n dX6_init_90 rfl 0 rfl ?_
  refine r_iconst dX6_init_91 ?_
  obtain ⟨p68, q69, e⟩ := bd_o e
  refine r_newAS q69 (by decide) rfl q194 dX6_init_92 ?_
  refine r_rrs E.p (fun rr70 => ?_)
  obtain ⟨h71, q72, e⟩ := bd_o e
  refine r_put (v := vq (some p68.1)) fP_X6_43i (by first | exact fun q => absurd q (by decide) | exact fun _ => rfl) trivial q72 dX6_init_94 ?_
  refine r_rrs E.p (fun rr73 => ?_)
  refine r_aload_n dX6_init_97 rfl 0 rfl ?_
  refine r_bipush dX6_init_98 (by decide) ?_
  obtain ⟨p74, q75, e⟩ := bd_o e
  refine r_newAS q75 (by decide) rfl q194 dX6_init_100 ?_
  refine r_rrs E.p (fun rr76 => ?_)
  obtain ⟨h77, q78, e⟩ := bd_o e
  refine r_put (v := vq (some p74.1)) fP_X6_46i (by first | exact fun q => absurd q (by decide) | exact fun _ => rfl) trivial q78 dX6_init_102 ?_
  refine r_rrs E.p (fun rr79 => ?_)
  refine r_aload_n dX6_init_105 rfl 0 rfl ?_
  refine r_bipush dX6_init_106 (by decide) ?_
  obtain ⟨p80, q81, e⟩ := bd_o e
  refine r_newAS q81 (by decide) rfl q194 dX6_init_108 ?_
  refine r_rrs E.p (fun rr82 => ?_)
  obtain ⟨h83, q84, e⟩ := bd_o e
  refine r_put (v := vq (some p80.1)) fP_X6_49i (by first | exact fun q => absurd q (by decide) | exact fun _ => rfl) trivial q84 dX6_init_110 ?_
  refine r_rrs E.p (fun rr85 => ?_)
  refine r_aload_n dX6_init_113 rfl 0 rfl ?_
  refine r_bipush dX6_init_114 (by decide) ?_
  obtain ⟨p86, q87, e⟩ := bd_o e
  refine r_newAS q87 (by decide) rfl q194 dX6_init_116 ?_
  refine r_rrs E.p (fun rr88 => ?_)
  obtain ⟨h89, q90, e⟩ := bd_o e
  refine r_put (v := vq (some p86.1)) fP_X6_52i (by first | exact fun q => absurd q (by decide) | exact fun _ => rfl) trivial q90 dX6_init_118 ?_
  refine r_rrs E.p (fun rr91 => ?_)
  refine r_aload_n dX6_init_121 rfl 0 rfl ?_
  refine r_bipush dX6_init_122 (by decide) ?_
  obtain ⟨p92, q93, e⟩ := bd_o e
  refine r_newAS q93 (by decide) rfl q1274 dX6_init_124 ?_
  refine r_rrs E.p (fun rr94 => ?_)
  obtain ⟨h95, q96, e⟩ := bd_o e
  refine r_put (v := vq (some p92.1)) fP_X6_55i (by first | exact fun q => absurd q (by decide) | exact fun _ => rfl) trivial q96 dX6_init_126 ?_
  refine r_rrs E.p (fun rr97 => ?_)
  refine r_aload_n dX6_init_129 rfl 0 rfl ?_
  refine r_iconst dX6_init_130 ?_
  obtain ⟨p98, q99, e⟩ := bd_o e
  refine r_newAS q99 (by decide) rfl q194 dX6_init_131 ?_
  refine r_rrs E.p (fun rr100 => ?_)
  obtain ⟨h101, q102, e⟩ := bd_o e
  refine r_put (v := vq (some p98.1)) fP_X6_59i (by first | exact fun q => absurd q (by decide) | exact fun _ => rfl) trivial q102 dX6_init_133 ?_
  refine r_rrs E.p (fun rr103 => ?_)
  refine r_aload_n dX6_init_136 rfl 0 rfl ?_
  refine r_bipush dX6_init_137 (by decide) ?_
  obtain ⟨p104, q105, e⟩ := bd_o e
  refine r_newAS q105 (by decide) rfl q194 dX6_init_139 ?_
  refine r_rrs E.p (fun rr106 => ?_)
  obtain ⟨h107, q108, e⟩ := bd_o e
  refine r_put (v := vq (some p104.1)) fP_X6_62i (by first | exact fun q => absurd q (by decide) | exact fun _ => rfl) trivial q108 dX6_init_141 ?_
  refine r_rrs E.p (fun rr109 => ?_)
  refine r_aload_n dX6_init_144 rfl 0 rfl ?_
  refine r_bipush dX6_init_145 (by decide) ?_
  obtain ⟨p110, q111, e⟩ := bd_o e
  refine r_newAS q111 (by decide) rfl q194 dX6_init_147 ?_
  refine r_rrs E.p (fun rr112 => ?_)
  obtain ⟨h113, q114, e⟩ := bd_o e
  refine r_put (v := vq (some p110.1)) fP_X6_65i (by first | exact fun q => absurd q (by decide) | exact fun _ => rfl) trivial q114 dX6_init_149 ?_
  refine r_rrs E.p (fun rr115 => ?_)
  refine r_aload_n dX6_init_152 rfl 0 rfl ?_
  refine r_bipush dX6_init_153 (by decide) ?_
  obtain ⟨p116, q117, e⟩ := bd_o e
  refine r_newAS q117 (by decide) rfl q194 dX6_init_155 ?_
  refine r_rrs E.p (fun rr118 => ?_)
  obtain ⟨h119, q120, e⟩ := bd_o e
  refine r_put (v := vq (some p116.1)) fP_X6_68i (by first | exact fun q => absurd q (by decide) | exact fun _ => rfl) trivial q120 dX6_init_157 ?_
  refine r_rrs E.p (fun rr121 => ?_)
  refine r_aload_n dX6_init_160 rfl 0 rfl ?_
  refine r_bipush dX6_init_161 (by decide) ?_
  obtain ⟨p122, q123, e⟩ := bd_o e
  refine r_newAS q123 (by decide) rfl q194 dX6_init_163 ?_
  refine r_rrs E.p (fun rr124 => ?_)
  obtain ⟨h125, q126, e⟩ := bd_o e
  refine r_put (v := vq (some p122.1)) fP_X6_71i (by first | exact fun q => absurd q (by decide) | exact fun _ => rfl) trivial q126 dX6_init_165 ?_
  refine r_rrs E.p (fun rr127 => ?_)
  refine r_aload_n dX6_init_168 rfl 0 rfl ?_
  refine r_bipush dX6_init_169 (by decide) ?_
  obtain ⟨p128, q129, e⟩ := bd_o e
  refine r_newAS q129 (by decide) rfl q194 dX6_init_171 ?_
  refine r_rrs E.p (fun rr130 => ?_)
  obtain ⟨h131, q132, e⟩ := bd_o e
  refine r_put (v := vq (some p128.1)) fP_X6_74i (by first | exact fun q => absurd q (by decide) | exact fun _ => rfl) trivial q132 dX6_init_173 ?_
  refine r_rrs E.p (fun rr133 => ?_)
  refine r_aload_n dX6_init_176 rfl 0 rfl ?_
  refine r_bipush dX6_init_177 (by decide) ?_
  obtain ⟨p134, q135, e⟩ := bd_o e
  refine r_newAS q135 (by decide) rfl q194 dX6_init_179 ?_
  refine r_rrs E.p (fun rr136 => ?_)
  obtain ⟨h137, q138, e⟩ := bd_o e
  refine r_put (v := vq (some p134.1)) fP_X6_77i (by first | exact fun q => absurd q (by decide) | exact fun _ => rfl) trivial q138 dX6_init_181 ?_
  refine r_rrs E.p (fun rr139 => ?_)
  refine r_aload_n dX6_init_184 rfl 0 rfl ?_
  refine r_bipush dX6_init_185 (by decide) ?_
  obtain ⟨p140, q141, e⟩ := bd_o e
  refine r_newAS q141 (by decide) rfl q194 dX6_init_187 ?_
  refine r_rrs E.p (fun rr142 => ?_)
  obtain ⟨h143, q144, e⟩ := bd_o e
  refine r_put (v := vq (some p140.1)) fP_X6_80i (by first | exact fun q => absurd q (by decide) | exact fun _ => rfl) trivial q144 dX6_init_189 ?_
  refine r_rrs E.p (fun rr145 => ?_)
  refine r_aload_n dX6_init_192 rfl 0 rfl ?_
  refine r_bipush dX6_init_193 (by decide) ?_
  obtain ⟨p146, q147, e⟩ := bd_o e
  refine r_newAS q147 (by decide) rfl q194 dX6_init_195 ?_
  refine r_rrs E.p (fun rr148 => ?_)
  obtain ⟨h149, q150, e⟩ := bd_o e
  refine r_put (v := vq (some p146.1)) fP_X6_83i (by first | exact fun q => absurd q (by decide) | exact fun _ => rfl) trivial q150 dX6_init_197 ?_
  refine r_rrs E.p (fun rr151 => ?_)
  refine r_aload_n dX6_init_200 rfl 0 rfl ?_
  refine r_iconst dX6_init_201 ?_
  obtain ⟨p152, q153, e⟩ := bd_o e
  refine r_newAS q153 (by decide) rfl q194 dX6_init_202 ?_
  refine r_rrs E.p (fun rr154 => ?_)
  obtain ⟨h155, q156, e⟩ := bd_o e
  refine r_put (v := vq (some p152.1)) fP_X6_86i (by first | exact fun q => absurd q (by decide) | exact fun _ => rfl) trivial q156 dX6_init_204 ?_
  refine r_rrs E.p (fun rr157 => ?_)
  refine r_aload_n dX6_init_207 rfl 0 rfl ?_
  refine r_bipush dX6_init_208 (by decide) ?_
  obtain ⟨p158, q159, e⟩ := bd_o e
  refine r_newAS q159 (by decide) rfl q194 dX6_init_210 ?_
  refine r_rrs E.p (fun rr160 => ?_)
  obtain ⟨h161, q162, e⟩ := bd_o e
  refine r_put (v := vq (some p158.1)) fP_X6_89i (by first | exact fun q => absurd q (by decide) | exact fun _ => rfl) trivial q162 dX6_init_212 ?_
  refine r_rrs E.p (fun rr163 => ?_)
  refine r_aload_n dX6_init_215 rfl 0 rfl ?_
  refine r_bipush dX6_init_216 (by decide) ?_
  obtain ⟨p164, q165, e⟩ := bd_o e
  refine r_newAS q165 (by decide) rfl q194 dX6_init_218 ?_
  refine r_rrs E.p (fun rr166 => ?_)
  obtain ⟨h167, q168, e⟩ := bd_o e
  refine r_put (v := vq (some p164.1)) fP_X6_92i (by first | exact fun q => absurd q (by decide) | exact fun _ => rfl) trivial q168 dX6_init_220 ?_
  refine r_rrs E.p (fun rr169 => ?_)
  refine r_aload_n dX6_init_223 rfl 0 rfl ?_
  refine r_bipush dX6_init_224 (by decide) ?_
  obtain ⟨p170, q171, e⟩ := bd_o e
  refine r_newAS q171 (by decide) rfl q194 dX6_init_226 ?_
  refine r_rrs E.p (fun rr172 => ?_)
  obtain ⟨h173, q174, e⟩ := bd_o e
  refine r_put (v := vq (some p170.1)) fP_X6_95i (by first | exact fun q => absurd q (by decide) | exact fun _ => rfl) trivial q174 dX6_init_228 ?_
  refine r_rrs E.p (fun rr175 => ?_)
  refine r_aload_n dX6_init_231 rfl 0 rfl ?_
  refine r_bipush dX6_init_232 (by decide) ?_
  obtain ⟨p176, q177, e⟩ := bd_o e
  refine r_newAS q177 (by decide) rfl q194 dX6_init_234 ?_
  refine r_rrs E.p (fun rr178 => ?_)
  obtain ⟨h179, q180, e⟩ := bd_o e
  refine r_put (v := vq (some p176.1)) fP_X6_98i (by first | exact fun q => absurd q (by decide) | exact fun _ => rfl) trivial q180 dX6_init_236 ?_
  refine r_rrs E.p (fun rr181 => ?_)
  refine r_aload_n dX6_init_239 rfl 0 rfl ?_
  refine r_bipush dX6_init_240 (by decide) ?_
  obtain ⟨p182, q183, e⟩ := bd_o e
  refine r_newAS q183 (by decide) rfl q194 dX6_init_242 ?_
  refine r_rrs E.p (fun rr184 => ?_)
  obtain ⟨h185, q186, e⟩ := bd_o e
  refine r_put (v := vq (some p182.1)) fP_X6_101i (by first | exact fun q => absurd q (by decide) | exact fun _ => rfl) trivial q186 dX6_init_244 ?_
  refine r_rrs E.p (fun rr187 => ?_)
  refine r_aload_n dX6_init_247 rfl 0 rfl ?_
  refine r_bipush dX6_init_248 (by decide) ?_
  obtain ⟨p188, q189, e⟩ := bd_o e
  refine r_newAS q189 (by decide) rfl q194 dX6_init_250 ?_
  refine r_rrs E.p (fun rr190 => ?_)
  obtain ⟨h191, q192, e⟩ := bd_o e
  refine r_put (v := vq (some p188.1)) fP_X6_104i (by first | exact fun q => absurd q (by decide) | exact fun _ => rfl) trivial q192 dX6_init_252 ?_
  refine r_rrs E.p (fun rr193 => ?_)
  refine r_aload_n dX6_init_255 rfl 0 rfl ?_
  refine r_bipush dX6_init_256 (by decide) ?_
  obtain ⟨p194, q195, e⟩ := bd_o e
  refine r_newAS q195 (by decide) rfl q194 dX6_init_258 ?_
  refine r_rrs E.p (fun rr196 => ?_)
  obtain ⟨h197, q198, e⟩ := bd_o e
  refine r_put (v := vq (some p194.1)) fP_X6_107i (by first | exact fun q => absurd q (by decide) | exact fun _ => rfl) trivial q198 dX6_init_260 ?_
  refine r_rrs E.p (fun rr199 => ?_)
  refine r_aload_n dX6_init_263 rfl 0 rfl ?_
  refine r_bipush dX6_init_264 (by decide) ?_
  obtain ⟨p200, q201, e⟩ := bd_o e
  refine r_newAS q201 (by decide) rfl q194 dX6_init_266 ?_
  refine r_rrs E.p (fun rr202 => ?_)
  obtain ⟨h203, q204, e⟩ := bd_o e
  refine r_put (v := vq (some p200.1)) fP_X6_110i (by first | exact fun q => absurd q (by decide) | exact fun _ => rfl) trivial q204 dX6_init_268 ?_
  refine r_rrs E.p (fun rr205 => ?_)
  refine r_aload_n dX6_init_271 rfl 0 rfl ?_
  refine r_bipush dX6_init_272 (by decide) ?_
  obtain ⟨p206, q207, e⟩ := bd_o e
  refine r_newAS q207 (by decide) rfl q194 dX6_init_274 ?_
  refine r_rrs E.p (fun rr208 => ?_)
  obtain ⟨h209, q210, e⟩ := bd_o e
  refine r_put (v := vq (some p206.1)) fP_X6_113i (by first | exact fun q => absurd q (by decide) | exact fun _ => rfl) trivial q210 dX6_init_276 ?_
  refine r_rrs E.p (fun rr211 => ?_)
  refine r_aload_n dX6_init_279 rfl 0 rfl ?_
  refine r_iconst dX6_init_280 ?_
  obtain ⟨p212, q213, e⟩ := bd_o e
  refine r_newAS q213 (by decide) rfl q194 dX6_init_281 ?_
  refine r_rrs E.p (fun rr214 => ?_)
  obtain ⟨h215, q216, e⟩ := bd_o e
  refine r_put (v := vq (some p212.1)) fP_X6_116i (by first | exact fun q => absurd q (by decide) | exact fun _ => rfl) trivial q216 dX6_init_283 ?_
  refine r_rrs E.p (fun rr217 => ?_)
  refine r_aload_n dX6_init_286 rfl 0 rfl ?_
  refine r_bipush dX6_init_287 (by decide) ?_
  obtain ⟨p218, q219, e⟩ := bd_o e
  refine r_newAS q219 (by decide) rfl q194 dX6_init_289 ?_
  refine r_rrs E.p (fun rr220 => ?_)
  obtain ⟨h221, q222, e⟩ := bd_o e
  refine r_put (v := vq (some p218.1)) fP_X6_119i (by first | exact fun q => absurd q (by decide) | exact fun _ => rfl) trivial q222 dX6_init_291 ?_
  refine r_rrs E.p (fun rr223 => ?_)
  refine r_aload_n dX6_init_294 rfl 0 rfl ?_
  refine r_bipush dX6_init_295 (by decide) ?_
  obtain ⟨p224, q225, e⟩ := bd_o e
  refine r_newAS q225 (by decide) rfl q194 dX6_init_297 ?_
  refine r_rrs E.p (fun rr226 => ?_)
  obtain ⟨h227, q228, e⟩ := bd_o e
  refine r_put (v := vq (some p224.1)) fP_X6_122i (by first | exact fun q => absurd q (by decide) | exact fun _ => rfl) trivial q228 dX6_init_299 ?_
  refine r_rrs E.p (fun rr229 => ?_)
  refine r_aload_n dX6_init_302 rfl 0 rfl ?_
  refine r_bipush dX6_init_303 (by decide) ?_
  obtain ⟨p230, q231, e⟩ := bd_o e
  refine r_newAS q231 (by decide) rfl q194 dX6_init_305 ?_
  refine r_rrs E.p (fun rr232 => ?_)
  obtain ⟨h233, q234, e⟩ := bd_o e
  refine r_put (v := vq (some p230.1)) fP_X6_125i (by first | exact fun q => absurd q (by decide) | exact fun _ => rfl) trivial q234 dX6_init_307 ?_
  refine r_rrs E.p (fun rr235 => ?_)
  refine r_aload_n dX6_init_310 rfl 0 rfl ?_
  refine r_bipush dX6_init_311 (by decide) ?_
  obtain ⟨p236, q237, e⟩ := bd_o e
  refine r_newAS q237 (by decide) rfl q194 dX6_init_313 ?_
  refine r_rrs E.p (fun rr238 => ?_)
  obtain ⟨h239, q240, e⟩ := bd_o e
  refine r_put (v := vq (some p236.1)) fP_X6_128i (by first | exact fun q => absurd q (by decide) | exact fun _ => rfl) trivial q240 dX6_init_315 ?_
  refine r_rrs E.p (fun rr241 => ?_)
  refine r_aload_n dX6_init_318 rfl 0 rfl ?_
  refine r_bipush dX6_init_319 (by decide) ?_
  obtain ⟨p242, q243, e⟩ := bd_o e
  refine r_newAS q243 (by decide) rfl q194 dX6_init_321 ?_
  refine r_rrs E.p (fun rr244 => ?_)
  obtain ⟨h245, q246, e⟩ := bd_o e
  refine r_put (v := vq (some p242.1)) fP_X6_131i (by first | exact fun q => absurd q (by decide) | exact fun _ => rfl) trivial q246 dX6_init_323 ?_
  refine r_rrs E.p (fun rr247 => ?_)
  refine r_aload_n dX6_init_326 rfl 0 rfl ?_
  refine r_iconst dX6_init_327 ?_
  obtain ⟨p248, q249, e⟩ := bd_o e
  refine r_newAS q249 (by decide) rfl q194 dX6_init_328 ?_
  refine r_rrs E.p (fun rr250 => ?_)
  obtain ⟨h251, q252, e⟩ := bd_o e
  refine r_put (v := vq (some p248.1)) fP_X6_134i (by first | exact fun q => absurd q (by decide) | exact fun _ => rfl) trivial q252 dX6_init_330 ?_
  refine r_rrs E.p (fun rr253 => ?_)
  refine r_aload_n dX6_init_333 rfl 0 rfl ?_
  refine r_bipush dX6_init_334 (by decide) ?_
  obtain ⟨p254, q255, e⟩ := bd_o e
  refine r_newAS q255 (by decide) rfl q194 dX6_init_336 ?_
  refine r_rrs E.p (fun rr256 => ?_)
  obtain ⟨h257, q258, e⟩ := bd_o e
  refine r_put (v := vq (some p254.1)) fP_X6_137i (by first | exact fun q => absurd q (by decide) | exact fun _ => rfl) trivial q258 dX6_init_338 ?_
  refine r_rrs E.p (fun rr259 => ?_)
  refine r_aload_n dX6_init_341 rfl 0 rfl ?_
  refine r_bipush dX6_init_342 (by decide) ?_
  obtain ⟨p260, q261, e⟩ := bd_o e
  refine r_newAS q261 (by decide) rfl q194 dX6_init_344 ?_
  refine r_rrs E.p (fun rr262 => ?_)
  obtain ⟨h263, q264, e⟩ := bd_o e
  refine r_put (v := vq (some p260.1)) fP_X6_140i (by first | exact fun q => absurd q (by decide) | exact fun _ => rfl) trivial q264 dX6_init_346 ?_
  refine r_rrs E.p (fun rr265 => ?_)
  refine r_aload_n dX6_init_349 rfl 0 rfl ?_
  refine r_bipush dX6_init_350 (by decide) ?_
  obtain ⟨p266, q267, e⟩ := bd_o e
  refine r_newAS q267 (by decide) rfl q194 dX6_init_352 ?_
  refine r_rrs E.p (fun rr268 => ?_)
  obtain ⟨h269, q270, e⟩ := bd_o e
  refine r_put (v := vq (some p266.1)) fP_X6_143i (by first | exact fun q => absurd q (by decide) | exact fun _ => rfl) trivial q270 dX6_init_354 ?_
  refine r_rrs E.p (fun rr271 => ?_)
  cases e
  exact r_vret E.σ E.st E.rt E.r dX6_init_357
def fX6_within_b15 (k0 : Int) : Option (Int) := gd (k0 = 0 ∨ k0 = 1) (some k0)
theorem wX6_within_b15 {N : Nx} {h : hS} {r : Int} (E : EndX N [] 3 (some .boolean) (some (ti r)) [] h)  (k0 : Int) (hk0 : rI k0) (e : fX6_within_b15 k0 = some (r)) : AtPc cX6_within RX6 0 0 N [] h 15 [] [ti k0] := by
  unfold fX6_within_b15 at e
  refine r_rrs E.p (fun rr => ?_)
  obtain ⟨g1, e⟩ := gd_o e
  cases e
  exact r_zret E.σ E.st E.rt E.r g1 dX6_within_15
def fX6_within_b14  : Option (Int) := fX6_within_b15 0
theorem wX6_within_b14 {N : Nx} {h : hS} {r : Int} (E : EndX N [] 3 (some .boolean) (some (ti r)) [] h)   (e : fX6_within_b14 = some (r)) : AtPc cX6_within RX6 0 0 N [] h 14 [] [] := by
  unfold fX6_within_b14 at e
  refine r_rrs E.p (fun rr => ?_)
  refine r_iconst dX6_within_14 ?_
  exact wX6_within_b15 E 0 (by decide) e
def fX6_within  (a0 : Int) (a1 : Int) (a2 : Int) : Option (Int) := if a0 < a1 then fX6_within_b14 else if a2 < a0 then fX6_within_b14 else fX6_within_b15 1
theorem kX6_within {G : Gx}  {h : hS} {r : Int} {a0 : Int} {a1 : Int} {a2 : Int}  (ha0 : rI a0) (ha1 : rI a1) (ha2 : rI a2) (e : fX6_within a0 a1 a2 = some (r)) : CtX G yX6_within cX6_within 3 (some .boolean) 0 0 [] [] h [ti a0, ti a1, ti a2] (some (ti r)) [] h := by
  refine CtX.of (by decide) (Nat.le_of_ble_eq_true rfl) [(0, ti a0), (1, ti a1), (2, ti a2)] rfl ?_
  have E : EndX (G, 3, [], h, [], h, (some .boolean), (some (ti r)), yX6_within.name) [] 3 (some .boolean) (some (ti r)) [] h := ⟨rfl, rfl, rfl, rfl, rfl, rfl⟩
  unfold fX6_within at e
  refine r_rrs E.p (fun rr => ?_)
  refine r_iload_n dX6_within_0 rfl 0 rfl ?_
  refine r_iload_n dX6_within_1 rfl 1 rfl ?_
  have eT := (r_ifo e).1
  have eF := (r_ifo e).2
  refine r_icmp_lt ha0 ha1 14 dX6_within_2 (by decide) (fun c1 => ?_) (fun c1 => ?_)
  · have e := eT c1
    refine r_sub [] rfl ?_
    exact wX6_within_b14 E e
  · have e := eF c1
    refine r_iload_n dX6_within_5 rfl 0 rfl ?_
    refine r_iload_n dX6_within_6 rfl 2 rfl ?_
    have eT := (r_ifo e).1
    have eF := (r_ifo e).2
    refine r_icmp_gt ha0 ha2 14 dX6_within_7 (by decide) (fun c2 => ?_) (fun c2 => ?_)
    · have e := eT c2
      refine r_sub [] rfl ?_
      exact wX6_within_b14 E e
    · have e := eF c2
      refine r_iconst dX6_within_10 ?_
      refine r_goto 15 dX6_within_11 (by decide) ?_
      refine r_sub [] rfl ?_
      exact wX6_within_b15 E 1 (by decide) e
theorem fG_X6_150 : FldG RX6 150 [(6, 19)] := List.forall_mem_cons.mpr ⟨⟨RX6, TX6, 63, "DictProofModel", rfl, in_X6, by decide, q1424, Or.inl rfl⟩, fun _ h => absurd h List.not_mem_nil⟩
theorem fG_X6_55 : FldG RX6 55 [(6, 20)] := List.forall_mem_cons.mpr ⟨⟨RX6, TX6, 63, "DictProofModel", rfl, in_X6, by decide, q1425, Or.inl rfl⟩, fun _ h => absurd h List.not_mem_nil⟩
theorem fP_X6_150 : FldP RX6 150 [(6, 19)] .int false := List.forall_mem_cons.mpr ⟨⟨RX6, TX6, 63, "DictProofModel", tyX6, rfl, in_X6, by decide, q1424, Or.inl rfl, tyX6_ok, nmX6, rfl, Or.inl rfl, by decide⟩, fun _ h => absurd h List.not_mem_nil⟩
def fX6_letter  (s : Sg) (a1 : Int) : Option (Int × Sg) := bd (fX6_within a1 32 126) fun p1 => if ¬ p1 = 0 then if ¬ (gI s 19) = 84 then gd (inb (gI s 19) 84) (some (gI (sI (sA s 20 (gI s 19) (i2b a1)) 19 (wr ((gI (sA s 20 (gI s 19) (i2b a1)) 19) + 1))) 19, sI (sA s 20 (gI s 19) (i2b a1)) 19 (wr ((gI (sA s 20 (gI s 19) (i2b a1)) 19) + 1)))) else some ((-104), s) else some ((-102), s)
theorem kX6_letter {G : Gx}  {b : Nat} {ad : Nat → Nat} {s' : Sg} {h : hS} {r : Int} {s : Sg} {a1 : Int}  (ha1 : rI a1) (e : fX6_letter s a1 = some (r, s')) : CtX G yX6_letter cX6_letter 2 (some .int) 1 22 [(6, b, ad)] [s] h [tr (some b), ti a1] (some (ti r)) [s'] h := by
  refine CtX.of (by decide) (Nat.le_of_ble_eq_true rfl) [(0, tr (some b)), (1, ti a1)] rfl ?_
  have E : EndX (G, 2, [(6, b, ad)], h, [s'], h, (some .int), (some (ti r)), yX6_letter.name) [(6, b, ad)] 2 (some .int) (some (ti r)) [s'] h := ⟨rfl, rfl, rfl, rfl, rfl, rfl⟩
  unfold fX6_letter at e
  refine r_rrs E.p (fun rr => ?_)
  refine r_iload_n dX6_letter_0 rfl 1 rfl ?_
  refine r_bipush dX6_letter_1 (by decide) ?_
  refine r_bipush dX6_letter_3 (by decide) ?_
  obtain ⟨p1, q2, e⟩ := bd_o e
  have k3 := kX6_within (G := G) (h := h) ha1 (by decide) (by decide) q2
  have z4 := (k3 rr.none).1.2.2.2
  refine r_callS (j := none) 3 [ti a1, ti 32, ti 126] k3 (injO_1 E.p) subO_0 getO_0 setO_0 (lw_S q1599 q1600 q123 q1601) (by decide +kernel) rfl (Nat.le_of_ble_eq_true rfl) (Nat.le_of_ble_eq_true rfl) rfl (Nat.le_of_ble_eq_true rfl) dX6_letter_5 rfl ?_
  have eT := (r_ifo e).1
  have eF := (r_ifo e).2
  refine r_if_ne (rI_z z4) 14 dX6_letter_8 (by decide) (fun c5 => ?_) (fun c5 => ?_)
  · have e := eT c5
    refine r_aload_n dX6_letter_14 rfl 0 rfl ?_
    refine r_sI E.p 19 fG_X6_150 (by decide) dX6_letter_15 ?_
    refine r_bipush dX6_letter_18 (by decide) ?_
    have eT := (r_ifo e).1
    have eF := (r_ifo e).2
    refine r_icmp_ne ((rr.mine rfl).i 19 (by decide) (by decide)) (by decide) 26 dX6_letter_20 (by decide) (fun c6 => ?_) (fun c6 => ?_)
    · have e := eT c6
      refine r_aload_n dX6_letter_26 rfl 0 rfl ?_
      refine r_sR E.p 20 fG_X6_55 (by decide) dX6_letter_27 ?_
      refine r_aload_n dX6_letter_30 rfl 0 rfl ?_
      refine r_sI E.p 19 fG_X6_150 (by decide) dX6_letter_31 ?_
      refine r_iload_n dX6_letter_34 rfl 1 rfl ?_
      refine r_i2b dX6_letter_35 ?_
      obtain ⟨g7, e⟩ := gd_o e
      refine r_saP E.p 20 rfl (by decide) (by decide) ((rr.mine rfl).i 19 (by decide) (by decide)) g7 (i2b_b _) rfl dX6_letter_36 ?_
      refine r_rrs E.p (fun rr8 => ?_)
      refine r_aload_n dX6_letter_37 rfl 0 rfl ?_
      refine r_dup dX6_letter_38 rfl ?_
      refine r_sI E.p 19 fG_X6_150 (by decide) dX6_letter_39 ?_
      refine r_iconst dX6_letter_42 ?_
      refine r_iadd dX6_letter_43 ?_
      refine r_sPI E.p 19 fP_X6_150 rfl (wr_r _) dX6_letter_44 ?_
      refine r_rrs E.p (fun rr9 => ?_)
      refine r_aload_n dX6_letter_47 rfl 0 rfl ?_
      refine r_sI E.p 19 fG_X6_150 (by decide) dX6_letter_48 ?_
      cases e
      exact r_iret E.σ E.st E.rt E.r ((rr9.mine rfl).i 19 (by decide) (by decide)) dX6_letter_51
    · have e := eF c6
      refine r_bipush dX6_letter_23 (by decide) ?_
      cases e
      exact r_iret E.σ E.st E.rt E.r (by decide) dX6_letter_25
  · have e := eF c5
    refine r_bipush dX6_letter_11 (by decide) ?_
    cases e
    exact r_iret E.σ E.st E.rt E.r (by decide) dX6_letter_13
def fX6_blank  (s : Sg) : Option (Int × Sg) := some (gI s 19, sI s 19 0)
theorem kX6_blank {G : Gx}  {b : Nat} {ad : Nat → Nat} {s' : Sg} {h : hS} {r : Int} {s : Sg}    (e : fX6_blank s = some (r, s')) : CtX G yX6_blank cX6_blank 2 (some .int) 0 0 [(6, b, ad)] [s] h [tr (some b)] (some (ti r)) [s'] h := by
  refine CtX.of (by decide) (Nat.le_of_ble_eq_true rfl) [(0, tr (some b))] rfl ?_
  have E : EndX (G, 2, [(6, b, ad)], h, [s'], h, (some .int), (some (ti r)), yX6_blank.name) [(6, b, ad)] 2 (some .int) (some (ti r)) [s'] h := ⟨rfl, rfl, rfl, rfl, rfl, rfl⟩
  unfold fX6_blank at e
  refine r_rrs E.p (fun rr => ?_)
  refine r_aload_n dX6_blank_0 rfl 0 rfl ?_
  refine r_sI E.p 19 fG_X6_150 (by decide) dX6_blank_1 ?_
  refine r_istore_n (lv' := [(1, ti (gI s 19)), (0, tr (some b))]) dX6_blank_4 rfl (E.lt (by decide)) rfl ?_
  refine r_aload_n dX6_blank_5 rfl 1 rfl ?_
  refine r_iconst dX6_blank_6 ?_
  refine r_sPI E.p 19 fP_X6_150 rfl (by decide) dX6_blank_7 ?_
  refine r_rrs E.p (fun rr1 => ?_)
  refine r_iload_n dX6_blank_10 rfl 0 rfl ?_
  cases e
  exact r_iret E.σ E.st E.rt E.r ((rr.mine rfl).i 19 (by decide) (by decide)) dX6_blank_11
def fX6_at_b18 (s : Sg) (k0 : Int) : Option (Int) := some k0
theorem wX6_at_b18 {N : Nx} {b : Nat} {ad : Nat → Nat} {s : Sg} {h : hS} {r : Int} (E : EndX N [(6, b, ad)] 2 (some .int) (some (ti r)) [s] h)  (k0 : Int) (hk0 : rI k0) (e : fX6_at_b18 s k0 = some (r)) : AtPc cX6_at RX6 0 0 N [s] h 18 [] [ti k0] := by
  unfold fX6_at_b18 at e
  refine r_rrs E.p (fun rr => ?_)
  cases e
  exact r_iret E.σ E.st E.rt E.r hk0 dX6_at_18
def fX6_at  (s : Sg) (a1 : Int) : Option (Int) := if (gI s 19) ≤ a1 then fX6_at_b18 s 0 else gd (inb a1 84) (fX6_at_b18 s (gA s 20 a1))
theorem kX6_at {G : Gx}  {b : Nat} {ad : Nat → Nat} {s : Sg} {h : hS} {r : Int} {a1 : Int}  (ha1 : rI a1) (e : fX6_at s a1 = some (r)) : CtX G yX6_at cX6_at 2 (some .int) 0 0 [(6, b, ad)] [s] h [tr (some b), ti a1] (some (ti r)) [s] h := by
  refine CtX.of (by decide) (Nat.le_of_ble_eq_true rfl) [(0, tr (some b)), (1, ti a1)] rfl ?_
  have E : EndX (G, 2, [(6, b, ad)], h, [s], h, (some .int), (some (ti r)), yX6_at.name) [(6, b, ad)] 2 (some .int) (some (ti r)) [s] h := ⟨rfl, rfl, rfl, rfl, rfl, rfl⟩
  unfold fX6_at at e
  refine r_rrs E.p (fun rr => ?_)
  refine r_iload_n dX6_at_0 rfl 1 rfl ?_
  refine r_aload_n dX6_at_1 rfl 0 rfl ?_
  refine r_sI E.p 19 fG_X6_150 (by decide) dX6_at_2 ?_
  have eT := (r_ifo e).1
  have eF := (r_ifo e).2
  refine r_icmp_ge ha1 ((rr.mine rfl).i 19 (by decide) (by decide)) 17 dX6_at_5 (by decide) (fun c1 => ?_) (fun c1 => ?_)
  · have e := eT c1
    refine r_iconst dX6_at_17 ?_
    refine r_sub [] rfl ?_
    exact wX6_at_b18 E 0 (by decide) e
  · have e := eF c1
    refine r_aload_n dX6_at_8 rfl 0 rfl ?_
    refine r_sR E.p 20 fG_X6_55 (by decide) dX6_at_9 ?_
    refine r_iload_n dX6_at_12 rfl 1 rfl ?_
    obtain ⟨g2, e⟩ := gd_o e
    refine r_saI E.p 20 rfl (by decide) (by decide) ha1 g2 rfl dX6_at_13 ?_
    refine r_goto 18 dX6_at_14 (by decide) ?_
    refine r_sub [] rfl ?_
    exact wX6_at_b18 E (gA s 20 a1) (((rr.mine rfl).a 20 (by decide) rfl).1 _) e
def fX6_figure  (s : Sg) (a1 : Int) : Option (Int) := bd (fX6_at s a1) fun p1 => some (wr (p1 - 48))
theorem kX6_figure {G : Gx}  {b : Nat} {ad : Nat → Nat} {s : Sg} {h : hS} {r : Int} {a1 : Int}  (ha1 : rI a1) (e : fX6_figure s a1 = some (r)) : CtX G yX6_figure cX6_figure 2 (some .int) 1 21 [(6, b, ad)] [s] h [tr (some b), ti a1] (some (ti r)) [s] h := by
  refine CtX.of (by decide) (Nat.le_of_ble_eq_true rfl) [(0, tr (some b)), (1, ti a1)] rfl ?_
  have E : EndX (G, 2, [(6, b, ad)], h, [s], h, (some .int), (some (ti r)), yX6_figure.name) [(6, b, ad)] 2 (some .int) (some (ti r)) [s] h := ⟨rfl, rfl, rfl, rfl, rfl, rfl⟩
  unfold fX6_figure at e
  refine r_rrs E.p (fun rr => ?_)
  refine r_aload_n dX6_figure_0 rfl 0 rfl ?_
  refine r_iload_n dX6_figure_1 rfl 1 rfl ?_
  obtain ⟨p1, q2, e⟩ := bd_o e
  have k3 := kX6_at (G := G) (b := b) (ad := ad) (h := h) ha1 q2
  have z4 := (k3 rr).1.2.2.2
  refine r_callV (j := some 0) 1 [ti a1] (rec_sg (j := 0) (r := (RX6, TX6, 63)) rfl (by rw [E.p]; rfl)) rfl k3 (injO_1 E.p) (subO_1 E.p) getO_1 setO_1 (lw_V q1622 q1624 qs49 q123 q1625) (by decide +kernel) rfl (Nat.le_of_ble_eq_true rfl) (Nat.le_of_ble_eq_true rfl) rfl (Nat.le_of_ble_eq_true rfl) dX6_figure_2 rfl ?_
  refine r_bipush dX6_figure_5 (by decide) ?_
  refine r_isub dX6_figure_7 ?_
  cases e
  exact r_iret E.σ E.st E.rt E.r (wr_r _) dX6_figure_8
theorem fP_X6_158 : FldP RX6 158 [(6, 22)] .boolean false := List.forall_mem_cons.mpr ⟨⟨RX6, TX6, 63, "DictProofModel", tyX6, rfl, in_X6, by decide, q1427, Or.inl rfl, tyX6_ok, nmX6, rfl, Or.inl rfl, by decide⟩, fun _ h => absurd h List.not_mem_nil⟩
def fX6_broken  (s : Sg) (a1 : Int) : Option (Int × Sg) := some (a1, sI s 22 1)
theorem kX6_broken {G : Gx}  {b : Nat} {ad : Nat → Nat} {s' : Sg} {h : hS} {r : Int} {s : Sg} {a1 : Int}  (ha1 : rI a1) (e : fX6_broken s a1 = some (r, s')) : CtX G yX6_broken cX6_broken 2 (some .int) 0 0 [(6, b, ad)] [s] h [tr (some b), ti a1] (some (ti r)) [s'] h := by
  refine CtX.of (by decide) (Nat.le_of_ble_eq_true rfl) [(0, tr (some b)), (1, ti a1)] rfl ?_
  have E : EndX (G, 2, [(6, b, ad)], h, [s'], h, (some .int), (some (ti r)), yX6_broken.name) [(6, b, ad)] 2 (some .int) (some (ti r)) [s'] h := ⟨rfl, rfl, rfl, rfl, rfl, rfl⟩
  unfold fX6_broken at e
  refine r_rrs E.p (fun rr => ?_)
  refine r_aload_n dX6_broken_0 rfl 0 rfl ?_
  refine r_iconst dX6_broken_1 ?_
  refine r_sPZ E.p 22 fP_X6_158 rfl (Or.inr rfl) dX6_broken_2 ?_
  refine r_rrs E.p (fun rr1 => ?_)
  refine r_iload_n dX6_broken_5 rfl 1 rfl ?_
  cases e
  exact r_iret E.σ E.st E.rt E.r ha1 dX6_broken_6
theorem fG_X6_59 : FldG RX6 59 [(6, 25)] := List.forall_mem_cons.mpr ⟨⟨RX6, TX6, 63, "DictProofModel", rfl, in_X6, by decide, q1430, Or.inl rfl⟩, fun _ h => absurd h List.not_mem_nil⟩
theorem fG_X6_162 : FldG RX6 162 [(6, 23)] := List.forall_mem_cons.mpr ⟨⟨RX6, TX6, 63, "DictProofModel", rfl, in_X6, by decide, q1428, Or.inl rfl⟩, fun _ h => absurd h List.not_mem_nil⟩
theorem fP_X6_162 : FldP RX6 162 [(6, 23)] .int false := List.forall_mem_cons.mpr ⟨⟨RX6, TX6, 63, "DictProofModel", tyX6, rfl, in_X6, by decide, q1428, Or.inl rfl, tyX6_ok, nmX6, rfl, Or.inl rfl, by decide⟩, fun _ h => absurd h List.not_mem_nil⟩
def fX6_readClass_b64 (K38 : Sg → Int → Int → Int → Option (Int × Sg)) (s : Sg) (a1 : Int) (a2 : Int) (a3 : Int) : Option (Int × Sg) := bd (fX6_figure s a2) fun p1 => bd (fX6_within p1 (wr (a3 + 1)) (wr ((gI s 23) - 1))) fun p5 => if ¬ p5 = 0 then bd (fX6_figure s a2) fun p10 => gd (inb (gI s 23) 4) (gd (inb (gI s 23) 4) (K38 (sA s 25 (gI s 23) (ior (gA s 25 (gI s 23)) (ishl 1 p10))) a1 (wr (a2 + 1)) p10)) else bd (fX6_broken s a2) fun p17 => some (p17.1, p17.2)
theorem wX6_readClass_b64 {N : Nx} {b : Nat} {ad : Nat → Nat} {s' : Sg} {h : hS} {r : Int} (E : EndX N [(6, b, ad)] 4 (some .int) (some (ti r)) [s'] h) (K38 : Sg → Int → Int → Int → Option (Int × Sg)) (hK38 : ∀ (s : Sg) (a1 : Int) (a2 : Int) (a3 : Int) (ha1 : rI a1) (ha2 : rI a2) (ha3 : rI a3), K38 s a1 a2 a3 = some (r, s') → AtPc cX6_readClass RX6 2 42 N [s] h 38 [(0, tr (some b)), (1, ti a1), (2, ti a2), (3, ti a3)] []) (s : Sg) (a1 : Int) (a2 : Int) (a3 : Int) (ha1 : rI a1) (ha2 : rI a2) (ha3 : rI a3) (e : fX6_readClass_b64 K38 s a1 a2 a3 = some (r, s')) : AtPc cX6_readClass RX6 2 42 N [s] h 64 [(0, tr (some b)), (1, ti a1), (2, ti a2), (3, ti a3)] [] := by
  unfold fX6_readClass_b64 at e
  refine r_rrs E.p (fun rr => ?_)
  refine r_aload_n dX6_readClass_64 rfl 0 rfl ?_
  refine r_iload_n dX6_readClass_65 rfl 2 rfl ?_
  obtain ⟨p1, q2, e⟩ := bd_o e
  have k3 := kX6_figure (G := nG N) (b := b) (ad := ad) (h := h) ha2 q2
  have z4 := (k3 rr).1.2.2.2
  refine r_callV (j := some 0) 1 [ti a2] (rec_sg (j := 0) (r := (RX6, TX6, 63)) rfl (by rw [E.p]; rfl)) rfl k3 (injO_1 E.p) (subO_1 E.p) getO_1 setO_1 (lw_V q1626 q1628 qs50 q123 q1629) (by decide +kernel) rfl (Nat.le_of_ble_eq_true rfl) (Nat.le_of_ble_eq_true rfl) rfl (Nat.le_of_ble_eq_true rfl) dX6_readClass_66 rfl ?_
  refine r_iload_n dX6_readClass_69 rfl 3 rfl ?_
  refine r_iconst dX6_readClass_70 ?_
  refine r_iadd dX6_readClass_71 ?_
  refine r_aload_n dX6_readClass_72 rfl 0 rfl ?_
  refine r_sI E.p 23 fG_X6_162 (by decide) dX6_readClass_73 ?_
  refine r_iconst dX6_readClass_76 ?_
  refine r_isub dX6_readClass_77 ?_
  obtain ⟨p5, q6, e⟩ := bd_o e
  have k7 := kX6_within (G := nG N) (h := h) z4 (wr_r _) (wr_r _) q6
  have z8 := (k7 rr.none).1.2.2.2
  refine r_callS (j := none) 3 [ti p1, ti (wr (a3 + 1)), ti (wr ((gI s 23) - 1))] k7 (injO_1 E.p) subO_0 getO_0 setO_0 (lw_S q1599 q1600 q123 q1601) (by decide +kernel) rfl (Nat.le_of_ble_eq_true rfl) (Nat.le_of_ble_eq_true rfl) rfl (Nat.le_of_ble_eq_true rfl) dX6_readClass_78 rfl ?_
  have eT := (r_ifo e).1
  have eF := (r_ifo e).2
  refine r_if_ne (rI_z z8) 90 dX6_readClass_81 (by decide) (fun c9 => ?_) (fun c9 => ?_)
  · have e := eT c9
    refine r_aload_n dX6_readClass_90 rfl 0 rfl ?_
    refine r_iload_n dX6_readClass_91 rfl 2 rfl ?_
    obtain ⟨p10, q11, e⟩ := bd_o e
    have k12 := kX6_figure (G := nG N) (b := b) (ad := ad) (h := h) ha2 q11
    have z13 := (k12 rr).1.2.2.2
    refine r_callV (j := some 0) 1 [ti a2] (rec_sg (j := 0) (r := (RX6, TX6, 63)) rfl (by rw [E.p]; rfl)) rfl k12 (injO_1 E.p) (subO_1 E.p) getO_1 setO_1 (lw_V q1626 q1628 qs50 q123 q1629) (by decide +kernel) rfl (Nat.le_of_ble_eq_true rfl) (Nat.le_of_ble_eq_true rfl) rfl (Nat.le_of_ble_eq_true rfl) dX6_readClass_92 rfl ?_
    refine r_istore_n (lv' := [(3, ti p10), (0, tr (some b)), (1, ti a1), (2, ti a2)]) dX6_readClass_95 rfl (E.lt (by decide)) rfl ?_
    refine r_aload_n dX6_readClass_96 rfl 1 rfl ?_
    refine r_sR E.p 25 fG_X6_59 (by decide) dX6_readClass_97 ?_
    refine r_aload_n dX6_readClass_100 rfl 1 rfl ?_
    refine r_sI E.p 23 fG_X6_162 (by decide) dX6_readClass_101 ?_
    refine r_dup2 dX6_readClass_104 rfl rfl ?_
    obtain ⟨g14, e⟩ := gd_o e
    refine r_saI E.p 25 rfl (by decide) (by decide) ((rr.mine rfl).i 23 (by decide) (by decide)) g14 rfl dX6_readClass_105 ?_
    refine r_iconst dX6_readClass_106 ?_
    refine r_iload_n dX6_readClass_107 rfl 0 rfl ?_
    refine r_ishl dX6_readClass_108 ?_
    refine r_ior dX6_readClass_109 ?_
    obtain ⟨g15, e⟩ := gd_o e
    refine r_saP E.p 25 rfl (by decide) (by decide) ((rr.mine rfl).i 23 (by decide) (by decide)) g15 (ior_r _ _) rfl dX6_readClass_110 ?_
    refine r_rrs E.p (fun rr16 => ?_)
    refine r_iinc (lv' := [(2, ti (wr (a2 + 1))), (3, ti p10), (0, tr (some b)), (1, ti a1)]) dX6_readClass_111 3 rfl (E.lt (by decide)) rfl ?_
    refine r_goto 38 dX6_readClass_114 (by decide) ?_
    refine r_sub [2, 3, 0, 1] rfl ?_
    exact hK38 (sA s 25 (gI s 23) (ior (gA s 25 (gI s 23)) (ishl 1 p10))) a1 (wr (a2 + 1)) p10 ha1 (wr_r _) z13 e
  · have e := eF c9
    refine r_aload_n dX6_readClass_84 rfl 0 rfl ?_
    refine r_iload_n dX6_readClass_85 rfl 2 rfl ?_
    obtain ⟨p17, q18, e⟩ := bd_o e
    have k19 := kX6_broken (G := nG N) (b := b) (ad := ad) (h := h) ha2 q18
    have z20 := (k19 rr).1.2.2.2
    refine r_callV (j := some 0) 1 [ti a2] (rec_sg (j := 0) (r := (RX6, TX6, 63)) rfl (by rw [E.p]; rfl)) rfl k19 (injO_1 E.p) (subO_1 E.p) getO_1 setO_1 (lw_V q1630 q1632 qs51 q123 q1633) (by decide +kernel) rfl (Nat.le_of_ble_eq_true rfl) (Nat.le_of_ble_eq_true rfl) rfl (Nat.le_of_ble_eq_true rfl) dX6_readClass_86 rfl ?_
    refine r_rrs E.p (fun rr21 => ?_)
    cases e
    exact r_iret E.σ E.st E.rt E.r z20 dX6_readClass_89
def fX6_readClass_b117 (s : Sg) (a2 : Int) : Option (Int × Sg) := some (a2, sI s 23 (wr ((gI s 23) + 1)))
theorem wX6_readClass_b117 {N : Nx} {b : Nat} {ad : Nat → Nat} {s' : Sg} {h : hS} {r : Int} (E : EndX N [(6, b, ad)] 4 (some .int) (some (ti r)) [s'] h)  (s : Sg) (a2 : Int) (ha2 : rI a2) (e : fX6_readClass_b117 s a2 = some (r, s')) : AtPc cX6_readClass RX6 2 42 N [s] h 117 [(0, tr (some b)), (2, ti a2)] [] := by
  unfold fX6_readClass_b117 at e
  refine r_rrs E.p (fun rr => ?_)
  refine r_aload_n dX6_readClass_117 rfl 0 rfl ?_
  refine r_dup dX6_readClass_118 rfl ?_
  refine r_sI E.p 23 fG_X6_162 (by decide) dX6_readClass_119 ?_
  refine r_iconst dX6_readClass_122 ?_
  refine r_iadd dX6_readClass_123 ?_
  refine r_sPI E.p 23 fP_X6_162 rfl (wr_r _) dX6_readClass_124 ?_
  refine r_rrs E.p (fun rr1 => ?_)
  refine r_iload_n dX6_readClass_127 rfl 1 rfl ?_
  cases e
  exact r_iret E.σ E.st E.rt E.r ha2 dX6_readClass_128
def fX6_readClass_b38 (K38 : Sg → Int → Int → Int → Option (Int × Sg)) (s : Sg) (a1 : Int) (a2 : Int) (a3 : Int) : Option (Int × Sg) := if (wr (a1 + 2)) ≤ a2 then fX6_readClass_b117 s a2 else if a2 = a1 then fX6_readClass_b64 K38 s a1 a2 a3 else bd (fX6_figure s a2) fun p3 => bd (fX6_within p3 0 9) fun p7 => if p7 = 0 then fX6_readClass_b117 s a2 else fX6_readClass_b64 K38 s a1 a2 a3
theorem wX6_readClass_b38 {N : Nx} {b : Nat} {ad : Nat → Nat} {s' : Sg} {h : hS} {r : Int} (E : EndX N [(6, b, ad)] 4 (some .int) (some (ti r)) [s'] h) (K38 : Sg → Int → Int → Int → Option (Int × Sg)) (hK38 : ∀ (s : Sg) (a1 : Int) (a2 : Int) (a3 : Int) (ha1 : rI a1) (ha2 : rI a2) (ha3 : rI a3), K38 s a1 a2 a3 = some (r, s') → AtPc cX6_readClass RX6 2 42 N [s] h 38 [(0, tr (some b)), (1, ti a1), (2, ti a2), (3, ti a3)] []) (s : Sg) (a1 : Int) (a2 : Int) (a3 : Int) (ha1 : rI a1) (ha2 : rI a2) (ha3 : rI a3) (e : fX6_readClass_b38 K38 s a1 a2 a3 = some (r, s')) : AtPc cX6_readClass RX6 2 42 N [s] h 38 [(0, tr (some b)), (1, ti a1), (2, ti a2), (3, ti a3)] [] := by
  unfold fX6_readClass_b38 at e
  refine r_rrs E.p (fun rr => ?_)
  refine r_iload_n dX6_readClass_38 rfl 2 rfl ?_
  refine r_iload_n dX6_readClass_39 rfl 1 rfl ?_
  refine r_iconst dX6_readClass_40 ?_
  refine r_iadd dX6_readClass_41 ?_
  have eT := (r_ifo e).1
  have eF := (r_ifo e).2
  refine r_icmp_ge ha2 (wr_r _) 117 dX6_readClass_42 (by decide) (fun c1 => ?_) (fun c1 => ?_)
  · have e := eT c1
    refine r_sub [0, 2] rfl ?_
    exact wX6_readClass_b117 E s a2 ha2 e
  · have e := eF c1
    refine r_iload_n dX6_readClass_45 rfl 2 rfl ?_
    refine r_iload_n dX6_readClass_46 rfl 1 rfl ?_
    have eT := (r_ifo e).1
    have eF := (r_ifo e).2
    refine r_icmp_eq ha2 ha1 64 dX6_readClass_47 (by decide) (fun c2 => ?_) (fun c2 => ?_)
    · have e := eT c2
      exact wX6_readClass_b64 E K38 hK38 s a1 a2 a3 ha1 ha2 ha3 e
    · have e := eF c2
      refine r_aload_n dX6_readClass_50 rfl 0 rfl ?_
      refine r_iload_n dX6_readClass_51 rfl 2 rfl ?_
      obtain ⟨p3, q4, e⟩ := bd_o e
      have k5 := kX6_figure (G := nG N) (b := b) (ad := ad) (h := h) ha2 q4
      have z6 := (k5 rr).1.2.2.2
      refine r_callV (j := some 0) 1 [ti a2] (rec_sg (j := 0) (r := (RX6, TX6, 63)) rfl (by rw [E.p]; rfl)) rfl k5 (injO_1 E.p) (subO_1 E.p) getO_1 setO_1 (lw_V q1626 q1628 qs50 q123 q1629) (by decide +kernel) rfl (Nat.le_of_ble_eq_true rfl) (Nat.le_of_ble_eq_true rfl) rfl (Nat.le_of_ble_eq_true rfl) dX6_readClass_52 rfl ?_
      refine r_iconst dX6_readClass_55 ?_
      refine r_bipush dX6_readClass_56 (by decide) ?_
      obtain ⟨p7, q8, e⟩ := bd_o e
      have k9 := kX6_within (G := nG N) (h := h) z6 (by decide) (by decide) q8
      have z10 := (k9 rr.none).1.2.2.2
      refine r_callS (j := none) 3 [ti p3, ti 0, ti 9] k9 (injO_1 E.p) subO_0 getO_0 setO_0 (lw_S q1599 q1600 q123 q1601) (by decide +kernel) rfl (Nat.le_of_ble_eq_true rfl) (Nat.le_of_ble_eq_true rfl) rfl (Nat.le_of_ble_eq_true rfl) dX6_readClass_58 rfl ?_
      have eT := (r_ifo e).1
      have eF := (r_ifo e).2
      refine r_if_eq (rI_z z10) 117 dX6_readClass_61 (by decide) (fun c11 => ?_) (fun c11 => ?_)
      · have e := eT c11
        refine r_sub [0, 2] rfl ?_
        exact wX6_readClass_b117 E s a2 ha2 e
      · have e := eF c11
        exact wX6_readClass_b64 E K38 hK38 s a1 a2 a3 ha1 ha2 ha3 e
def fX6_readClass_L38  : Nat → Sg → Int → Int → Int → Option (Int × Sg)
  | 0, _, _, _, _ => none
  | n9 + 1, s, a1, a2, a3 => fX6_readClass_b38 (fX6_readClass_L38 n9) s a1 a2 a3
theorem wX6_readClass_L38 {N : Nx} {b : Nat} {ad : Nat → Nat} {s' : Sg} {h : hS} {r : Int} (E : EndX N [(6, b, ad)] 4 (some .int) (some (ti r)) [s'] h)  : ∀ (n9 : Nat), ∀ (s : Sg) (a1 : Int) (a2 : Int) (a3 : Int) (ha1 : rI a1) (ha2 : rI a2) (ha3 : rI a3), fX6_readClass_L38 n9 s a1 a2 a3 = some (r, s') → AtPc cX6_readClass RX6 2 42 N [s] h 38 [(0, tr (some b)), (1, ti a1), (2, ti a2), (3, ti a3)] [] := by
  intro n9
  induction n9 with
  | zero => intro s a1 a2 a3 ha1 ha2 ha3 e; cases e
  | succ n9 ih => intro s a1 a2 a3 ha1 ha2 ha3 e; exact wX6_readClass_b38 E _ ih s a1 a2 a3 ha1 ha2 ha3 e
def fX6_readClass  (s : Sg) (a1 : Int) : Option (Int × Sg) := gd (inb (gI s 23) 4) (bd (fX6_at (sA s 25 (gI s 23) 0) a1) fun p3 => if ¬ p3 = 45 then fX6_readClass_L38 FU (sA s 25 (gI s 23) 0) a1 a1 (-1) else some (wr (a1 + 1), sI (sA s 25 (gI s 23) 0) 23 (wr ((gI (sA s 25 (gI s 23) 0) 23) + 1))))
theorem kX6_readClass {G : Gx}  {b : Nat} {ad : Nat → Nat} {s' : Sg} {h : hS} {r : Int} {s : Sg} {a1 : Int}  (ha1 : rI a1) (e : fX6_readClass s a1 = some (r, s')) : CtX G yX6_readClass cX6_readClass 4 (some .int) 2 42 [(6, b, ad)] [s] h [tr (some b), ti a1] (some (ti r)) [s'] h := by
  refine CtX.of (by decide) (Nat.le_of_ble_eq_true rfl) [(0, tr (some b)), (1, ti a1)] rfl ?_
  have E : EndX (G, 4, [(6, b, ad)], h, [s'], h, (some .int), (some (ti r)), yX6_readClass.name) [(6, b, ad)] 4 (some .int) (some (ti r)) [s'] h := ⟨rfl, rfl, rfl, rfl, rfl, rfl⟩
  unfold fX6_readClass at e
  refine r_rrs E.p (fun rr => ?_)
  refine r_aload_n dX6_readClass_0 rfl 0 rfl ?_
  refine r_sR E.p 25 fG_X6_59 (by decide) dX6_readClass_1 ?_
  refine r_aload_n dX6_readClass_4 rfl 0 rfl ?_
  refine r_sI E.p 23 fG_X6_162 (by decide) dX6_readClass_5 ?_
  refine r_iconst dX6_readClass_8 ?_
  obtain ⟨g1, e⟩ := gd_o e
  refine r_saP E.p 25 rfl (by decide) (by decide) ((rr.mine rfl).i 23 (by decide) (by decide)) g1 (by show rI _; decide) rfl dX6_readClass_9 ?_
  refine r_rrs E.p (fun rr2 => ?_)
  refine r_aload_n dX6_readClass_10 rfl 0 rfl ?_
  refine r_iload_n dX6_readClass_11 rfl 1 rfl ?_
  obtain ⟨p3, q4, e⟩ := bd_o e
  have k5 := kX6_at (G := G) (b := b) (ad := ad) (h := h) ha1 q4
  have z6 := (k5 rr2).1.2.2.2
  refine r_callV (j := some 0) 1 [ti a1] (rec_sg (j := 0) (r := (RX6, TX6, 63)) rfl (by rw [E.p]; rfl)) rfl k5 (injO_1 E.p) (subO_1 E.p) getO_1 setO_1 (lw_V q1622 q1624 qs49 q123 q1625) (by decide +kernel) rfl (Nat.le_of_ble_eq_true rfl) (Nat.le_of_ble_eq_true rfl) rfl (Nat.le_of_ble_eq_true rfl) dX6_readClass_12 rfl ?_
  refine r_bipush dX6_readClass_15 (by decide) ?_
  have eT := (r_ifo e).1
  have eF := (r_ifo e).2
  refine r_icmp_ne z6 (by decide) 34 dX6_readClass_17 (by decide) (fun c7 => ?_) (fun c7 => ?_)
  · have e := eT c7
    refine r_iload_n dX6_readClass_34 rfl 1 rfl ?_
    refine r_istore_n (lv' := [(2, ti a1), (0, tr (some b)), (1, ti a1)]) dX6_readClass_35 rfl (E.lt (by decide)) rfl ?_
    refine r_iconst dX6_readClass_36 ?_
    refine r_istore_n (lv' := [(3, ti (-1)), (2, ti a1), (0, tr (some b)), (1, ti a1)]) dX6_readClass_37 rfl (E.lt (by decide)) rfl ?_
    refine r_sub [2, 3, 1, 0] rfl ?_
    exact wX6_readClass_L38 E FU (sA s 25 (gI s 23) 0) a1 a1 (-1) ha1 ha1 (by decide) e
  · have e := eF c7
    refine r_aload_n dX6_readClass_20 rfl 0 rfl ?_
    refine r_dup dX6_readClass_21 rfl ?_
    refine r_sI E.p 23 fG_X6_162 (by decide) dX6_readClass_22 ?_
    refine r_iconst dX6_readClass_25 ?_
    refine r_iadd dX6_readClass_26 ?_
    refine r_sPI E.p 23 fP_X6_162 rfl (wr_r _) dX6_readClass_27 ?_
    refine r_rrs E.p (fun rr8 => ?_)
    refine r_iload_n dX6_readClass_30 rfl 1 rfl ?_
    refine r_iconst dX6_readClass_31 ?_
    refine r_iadd dX6_readClass_32 ?_
    cases e
    exact r_iret E.σ E.st E.rt E.r (wr_r _) dX6_readClass_33
theorem fG_X6_158 : FldG RX6 158 [(6, 22)] := List.forall_mem_cons.mpr ⟨⟨RX6, TX6, 63, "DictProofModel", rfl, in_X6, by decide, q1427, Or.inl rfl⟩, fun _ h => absurd h List.not_mem_nil⟩
def fX6_readClasses_b42 (s : Sg) (a1 : Int) : Option (Int × Sg) := some (a1, s)
theorem wX6_readClasses_b42 {N : Nx} {b : Nat} {ad : Nat → Nat} {s' : Sg} {h : hS} {r : Int} (E : EndX N [(6, b, ad)] 2 (some .int) (some (ti r)) [s'] h)  (s : Sg) (a1 : Int) (ha1 : rI a1) (e : fX6_readClasses_b42 s a1 = some (r, s')) : AtPc cX6_readClasses RX6 3 65 N [s] h 42 [(1, ti a1)] [] := by
  unfold fX6_readClasses_b42 at e
  refine r_rrs E.p (fun rr => ?_)
  refine r_iload_n dX6_readClasses_42 rfl 0 rfl ?_
  cases e
  exact r_iret E.σ E.st E.rt E.r ha1 dX6_readClasses_43
def fX6_readClasses_b6 (K6 : Sg → Int → Option (Int × Sg)) (s : Sg) (a1 : Int) : Option (Int × Sg) := if ¬ (gI s 22) = 0 then fX6_readClasses_b42 s a1 else if 4 ≤ (gI s 23) then fX6_readClasses_b42 s a1 else bd (fX6_at s a1) fun p3 => if ¬ p3 = 44 then fX6_readClasses_b42 s a1 else bd (fX6_readClass s (wr (a1 + 1))) fun p8 => K6 p8.2 p8.1
theorem wX6_readClasses_b6 {N : Nx} {b : Nat} {ad : Nat → Nat} {s' : Sg} {h : hS} {r : Int} (E : EndX N [(6, b, ad)] 2 (some .int) (some (ti r)) [s'] h) (K6 : Sg → Int → Option (Int × Sg)) (hK6 : ∀ (s : Sg) (a1 : Int) (ha1 : rI a1), K6 s a1 = some (r, s') → AtPc cX6_readClasses RX6 3 65 N [s] h 6 [(0, tr (some b)), (1, ti a1)] []) (s : Sg) (a1 : Int) (ha1 : rI a1) (e : fX6_readClasses_b6 K6 s a1 = some (r, s')) : AtPc cX6_readClasses RX6 3 65 N [s] h 6 [(0, tr (some b)), (1, ti a1)] [] := by
  unfold fX6_readClasses_b6 at e
  refine r_rrs E.p (fun rr => ?_)
  refine r_aload_n dX6_readClasses_6 rfl 0 rfl ?_
  refine r_sI E.p 22 fG_X6_158 (by decide) dX6_readClasses_7 ?_
  have eT := (r_ifo e).1
  have eF := (r_ifo e).2
  refine r_if_ne ((rr.mine rfl).i 22 (by decide) (by decide)) 42 dX6_readClasses_10 (by decide) (fun c1 => ?_) (fun c1 => ?_)
  · have e := eT c1
    refine r_sub [1] rfl ?_
    exact wX6_readClasses_b42 E s a1 ha1 e
  · have e := eF c1
    refine r_aload_n dX6_readClasses_13 rfl 0 rfl ?_
    refine r_sI E.p 23 fG_X6_162 (by decide) dX6_readClasses_14 ?_
    refine r_iconst dX6_readClasses_17 ?_
    have eT := (r_ifo e).1
    have eF := (r_ifo e).2
    refine r_icmp_ge ((rr.mine rfl).i 23 (by decide) (by decide)) (by decide) 42 dX6_readClasses_18 (by decide) (fun c2 => ?_) (fun c2 => ?_)
    · have e := eT c2
      refine r_sub [1] rfl ?_
      exact wX6_readClasses_b42 E s a1 ha1 e
    · have e := eF c2
      refine r_aload_n dX6_readClasses_21 rfl 0 rfl ?_
      refine r_iload_n dX6_readClasses_22 rfl 1 rfl ?_
      obtain ⟨p3, q4, e⟩ := bd_o e
      have k5 := kX6_at (G := nG N) (b := b) (ad := ad) (h := h) ha1 q4
      have z6 := (k5 rr).1.2.2.2
      refine r_callV (j := some 0) 1 [ti a1] (rec_sg (j := 0) (r := (RX6, TX6, 63)) rfl (by rw [E.p]; rfl)) rfl k5 (injO_1 E.p) (subO_1 E.p) getO_1 setO_1 (lw_V q1622 q1624 qs49 q123 q1625) (by decide +kernel) rfl (Nat.le_of_ble_eq_true rfl) (Nat.le_of_ble_eq_true rfl) rfl (Nat.le_of_ble_eq_true rfl) dX6_readClasses_23 rfl ?_
      refine r_bipush dX6_readClasses_26 (by decide) ?_
      have eT := (r_ifo e).1
      have eF := (r_ifo e).2
      refine r_icmp_ne z6 (by decide) 42 dX6_readClasses_28 (by decide) (fun c7 => ?_) (fun c7 => ?_)
      · have e := eT c7
        refine r_sub [1] rfl ?_
        exact wX6_readClasses_b42 E s a1 ha1 e
      · have e := eF c7
        refine r_aload_n dX6_readClasses_31 rfl 0 rfl ?_
        refine r_iload_n dX6_readClasses_32 rfl 1 rfl ?_
        refine r_iconst dX6_readClasses_33 ?_
        refine r_iadd dX6_readClasses_34 ?_
        obtain ⟨p8, q9, e⟩ := bd_o e
        have k10 := kX6_readClass (G := nG N) (b := b) (ad := ad) (h := h) (wr_r _) q9
        have z11 := (k10 rr).1.2.2.2
        refine r_callV (j := some 0) 1 [ti (wr (a1 + 1))] (rec_sg (j := 0) (r := (RX6, TX6, 63)) rfl (by rw [E.p]; rfl)) rfl k10 (injO_1 E.p) (subO_1 E.p) getO_1 setO_1 (lw_V q1618 q1620 qs48 q123 q1621) (by decide +kernel) rfl (Nat.le_of_ble_eq_true rfl) (Nat.le_of_ble_eq_true rfl) rfl (Nat.le_of_ble_eq_true rfl) dX6_readClasses_35 rfl ?_
        refine r_rrs E.p (fun rr12 => ?_)
        refine r_istore_n (lv' := [(1, ti p8.1), (0, tr (some b))]) dX6_readClasses_38 rfl (E.lt (by decide)) rfl ?_
        refine r_goto 6 dX6_readClasses_39 (by decide) ?_
        refine r_sub [1, 0] rfl ?_
        exact hK6 p8.2 p8.1 z11 e
def fX6_readClasses_L6  : Nat → Sg → Int → Option (Int × Sg)
  | 0, _, _ => none
  | n9 + 1, s, a1 => fX6_readClasses_b6 (fX6_readClasses_L6 n9) s a1
theorem wX6_readClasses_L6 {N : Nx} {b : Nat} {ad : Nat → Nat} {s' : Sg} {h : hS} {r : Int} (E : EndX N [(6, b, ad)] 2 (some .int) (some (ti r)) [s'] h)  : ∀ (n9 : Nat), ∀ (s : Sg) (a1 : Int) (ha1 : rI a1), fX6_readClasses_L6 n9 s a1 = some (r, s') → AtPc cX6_readClasses RX6 3 65 N [s] h 6 [(0, tr (some b)), (1, ti a1)] [] := by
  intro n9
  induction n9 with
  | zero => intro s a1 ha1 e; cases e
  | succ n9 ih => intro s a1 ha1 e; exact wX6_readClasses_b6 E _ ih s a1 ha1 e
def fX6_readClasses  (s : Sg) : Option (Int × Sg) := bd (fX6_readClass s 0) fun p1 => fX6_readClasses_L6 FU p1.2 p1.1
theorem kX6_readClasses {G : Gx}  {b : Nat} {ad : Nat → Nat} {s' : Sg} {h : hS} {r : Int} {s : Sg}    (e : fX6_readClasses s = some (r, s')) : CtX G yX6_readClasses cX6_readClasses 2 (some .int) 3 65 [(6, b, ad)] [s] h [tr (some b)] (some (ti r)) [s'] h := by
  refine CtX.of (by decide) (Nat.le_of_ble_eq_true rfl) [(0, tr (some b))] rfl ?_
  have E : EndX (G, 2, [(6, b, ad)], h, [s'], h, (some .int), (some (ti r)), yX6_readClasses.name) [(6, b, ad)] 2 (some .int) (some (ti r)) [s'] h := ⟨rfl, rfl, rfl, rfl, rfl, rfl⟩
  unfold fX6_readClasses at e
  refine r_rrs E.p (fun rr => ?_)
  refine r_aload_n dX6_readClasses_0 rfl 0 rfl ?_
  refine r_iconst dX6_readClasses_1 ?_
  obtain ⟨p1, q2, e⟩ := bd_o e
  have k3 := kX6_readClass (G := G) (b := b) (ad := ad) (h := h) (by decide) q2
  have z4 := (k3 rr).1.2.2.2
  refine r_callV (j := some 0) 1 [ti 0] (rec_sg (j := 0) (r := (RX6, TX6, 63)) rfl (by rw [E.p]; rfl)) rfl k3 (injO_1 E.p) (subO_1 E.p) getO_1 setO_1 (lw_V q1618 q1620 qs48 q123 q1621) (by decide +kernel) rfl (Nat.le_of_ble_eq_true rfl) (Nat.le_of_ble_eq_true rfl) rfl (Nat.le_of_ble_eq_true rfl) dX6_readClasses_2 rfl ?_
  refine r_rrs E.p (fun rr5 => ?_)
  refine r_istore_n (lv' := [(1, ti p1.1), (0, tr (some b))]) dX6_readClasses_5 rfl (E.lt (by decide)) rfl ?_
  refine r_sub [1, 0] rfl ?_
  exact wX6_readClasses_L6 E FU p1.2 p1.1 z4 e
def fX6_kindBy  (a0 : Int) : Option (Int) := if a0 = 100 then some 1 else if a0 = 102 then some 3 else if a0 = 104 then some 2 else if a0 = 110 then some 0 else if a0 = 115 then some 4 else some (-1)
theorem kX6_kindBy {G : Gx}  {h : hS} {r : Int} {a0 : Int}  (ha0 : rI a0) (e : fX6_kindBy a0 = some (r)) : CtX G yX6_kindBy cX6_kindBy 1 (some .int) 0 0 [] [] h [ti a0] (some (ti r)) [] h := by
  refine CtX.of (by decide) (Nat.le_of_ble_eq_true rfl) [(0, ti a0)] rfl ?_
  have E : EndX (G, 1, [], h, [], h, (some .int), (some (ti r)), yX6_kindBy.name) [] 1 (some .int) (some (ti r)) [] h := ⟨rfl, rfl, rfl, rfl, rfl, rfl⟩
  unfold fX6_kindBy at e
  refine r_rrs E.p (fun rr => ?_)
  refine r_iload_n dX6_kindBy_0 rfl 0 rfl ?_
  have eT := (r_ifo e).1
  have eF := (r_ifo e).2
  by_cases c1 : a0 = 100
  · have e := eT c1
    refine r_lsw ha0 dX6_kindBy_1 (by decide) 54 (off := 53) (by rw [c1]; rfl) (by decide) ?_
    refine r_iconst dX6_kindBy_54 ?_
    cases e
    exact r_iret E.σ E.st E.rt E.r (by decide) dX6_kindBy_55
  · have e := eF c1
    have eT := (r_ifo e).1
    have eF := (r_ifo e).2
    by_cases c2 : a0 = 102
    · have e := eT c2
      refine r_lsw ha0 dX6_kindBy_1 (by decide) 58 (off := 57) (by rw [c2]; rfl) (by decide) ?_
      refine r_iconst dX6_kindBy_58 ?_
      cases e
      exact r_iret E.σ E.st E.rt E.r (by decide) dX6_kindBy_59
    · have e := eF c2
      have eT := (r_ifo e).1
      have eF := (r_ifo e).2
      by_cases c3 : a0 = 104
      · have e := eT c3
        refine r_lsw ha0 dX6_kindBy_1 (by decide) 56 (off := 55) (by rw [c3]; rfl) (by decide) ?_
        refine r_iconst dX6_kindBy_56 ?_
        cases e
        exact r_iret E.σ E.st E.rt E.r (by decide) dX6_kindBy_57
      · have e := eF c3
        have eT := (r_ifo e).1
        have eF := (r_ifo e).2
        by_cases c4 : a0 = 110
        · have e := eT c4
          refine r_lsw ha0 dX6_kindBy_1 (by decide) 52 (off := 51) (by rw [c4]; rfl) (by decide) ?_
          refine r_iconst dX6_kindBy_52 ?_
          cases e
          exact r_iret E.σ E.st E.rt E.r (by decide) dX6_kindBy_53
        · have e := eF c4
          have eT := (r_ifo e).1
          have eF := (r_ifo e).2
          by_cases c5 : a0 = 115
          · have e := eT c5
            refine r_lsw ha0 dX6_kindBy_1 (by decide) 60 (off := 59) (by rw [c5]; rfl) (by decide) ?_
            refine r_iconst dX6_kindBy_60 ?_
            cases e
            exact r_iret E.σ E.st E.rt E.r (by decide) dX6_kindBy_61
          · have e := eF c5
            refine r_lsw ha0 dX6_kindBy_1 (by decide) 62 (off := 61) (by show Op.lookupswitch.offset [(100, 53), (102, 57), (104, 55), (110, 51), (115, 59)] 61 a0 = _; rw [lsw_ne c1, lsw_ne c2, lsw_ne c3, lsw_ne c4, lsw_ne c5]; rfl) (by decide) ?_
            refine r_iconst dX6_kindBy_62 ?_
            cases e
            exact r_iret E.σ E.st E.rt E.r (by decide) dX6_kindBy_63
def fX6_wants_b60  : Option (Int) := some 0
theorem wX6_wants_b60 {N : Nx} {h : hS} {r : Int} (E : EndX N [] 1 (some .int) (some (ti r)) [] h)   (e : fX6_wants_b60 = some (r)) : AtPc cX6_wants RX6 0 0 N [] h 60 [] [] := by
  unfold fX6_wants_b60 at e
  refine r_rrs E.p (fun rr => ?_)
  refine r_iconst dX6_wants_60 ?_
  cases e
  exact r_iret E.σ E.st E.rt E.r (by decide) dX6_wants_61
def fX6_wants  (a0 : Int) : Option (Int) := if a0 = 98 then fX6_wants_b60 else if a0 = 105 then fX6_wants_b60 else if a0 = 108 then some 1 else if a0 = 112 then some 2 else if a0 = 120 then fX6_wants_b60 else if a0 = 121 then fX6_wants_b60 else some (-1)
theorem kX6_wants {G : Gx}  {h : hS} {r : Int} {a0 : Int}  (ha0 : rI a0) (e : fX6_wants a0 = some (r)) : CtX G yX6_wants cX6_wants 1 (some .int) 0 0 [] [] h [ti a0] (some (ti r)) [] h := by
  refine CtX.of (by decide) (Nat.le_of_ble_eq_true rfl) [(0, ti a0)] rfl ?_
  have E : EndX (G, 1, [], h, [], h, (some .int), (some (ti r)), yX6_wants.name) [] 1 (some .int) (some (ti r)) [] h := ⟨rfl, rfl, rfl, rfl, rfl, rfl⟩
  unfold fX6_wants at e
  refine r_rrs E.p (fun rr => ?_)
  refine r_iload_n dX6_wants_0 rfl 0 rfl ?_
  have eT := (r_ifo e).1
  have eF := (r_ifo e).2
  by_cases c1 : a0 = 98
  · have e := eT c1
    refine r_lsw ha0 dX6_wants_1 (by decide) 60 (off := 59) (by rw [c1]; rfl) (by decide) ?_
    refine r_sub [] rfl ?_
    exact wX6_wants_b60 E e
  · have e := eF c1
    have eT := (r_ifo e).1
    have eF := (r_ifo e).2
    by_cases c2 : a0 = 105
    · have e := eT c2
      refine r_lsw ha0 dX6_wants_1 (by decide) 60 (off := 59) (by rw [c2]; rfl) (by decide) ?_
      refine r_sub [] rfl ?_
      exact wX6_wants_b60 E e
    · have e := eF c2
      have eT := (r_ifo e).1
      have eF := (r_ifo e).2
      by_cases c3 : a0 = 108
      · have e := eT c3
        refine r_lsw ha0 dX6_wants_1 (by decide) 62 (off := 61) (by rw [c3]; rfl) (by decide) ?_
        refine r_iconst dX6_wants_62 ?_
        cases e
        exact r_iret E.σ E.st E.rt E.r (by decide) dX6_wants_63
      · have e := eF c3
        have eT := (r_ifo e).1
        have eF := (r_ifo e).2
        by_cases c4 : a0 = 112
        · have e := eT c4
          refine r_lsw ha0 dX6_wants_1 (by decide) 64 (off := 63) (by rw [c4]; rfl) (by decide) ?_
          refine r_iconst dX6_wants_64 ?_
          cases e
          exact r_iret E.σ E.st E.rt E.r (by decide) dX6_wants_65
        · have e := eF c4
          have eT := (r_ifo e).1
          have eF := (r_ifo e).2
          by_cases c5 : a0 = 120
          · have e := eT c5
            refine r_lsw ha0 dX6_wants_1 (by decide) 60 (off := 59) (by rw [c5]; rfl) (by decide) ?_
            refine r_sub [] rfl ?_
            exact wX6_wants_b60 E e
          · have e := eF c5
            have eT := (r_ifo e).1
            have eF := (r_ifo e).2
            by_cases c6 : a0 = 121
            · have e := eT c6
              refine r_lsw ha0 dX6_wants_1 (by decide) 60 (off := 59) (by rw [c6]; rfl) (by decide) ?_
              refine r_sub [] rfl ?_
              exact wX6_wants_b60 E e
            · have e := eF c6
              refine r_lsw ha0 dX6_wants_1 (by decide) 66 (off := 65) (by show Op.lookupswitch.offset [(98, 59), (105, 59), (108, 61), (112, 63), (120, 59), (121, 59)] 65 a0 = _; rw [lsw_ne c1, lsw_ne c2, lsw_ne c3, lsw_ne c4, lsw_ne c5, lsw_ne c6]; rfl) (by decide) ?_
              refine r_iconst dX6_wants_66 ?_
              cases e
              exact r_iret E.σ E.st E.rt E.r (by decide) dX6_wants_67
theorem fG_X6_68 : FldG RX6 68 [(6, 28)] := List.forall_mem_cons.mpr ⟨⟨RX6, TX6, 63, "DictProofModel", rfl, in_X6, by decide, q1433, Or.inl rfl⟩, fun _ h => absurd h List.not_mem_nil⟩
theorem fG_X6_71 : FldG RX6 71 [(6, 29)] := List.forall_mem_cons.mpr ⟨⟨RX6, TX6, 63, "DictProofModel", rfl, in_X6, by decide, q1434, Or.inl rfl⟩, fun _ h => absurd h List.not_mem_nil⟩
def fX6_readHead_b39 (s : Sg) (a3 : Int) : Option (Int × Sg) := bd (fX6_broken s a3) fun p1 => some (p1.1, p1.2)
theorem wX6_readHead_b39 {N : Nx} {b : Nat} {ad : Nat → Nat} {s' : Sg} {h : hS} {r : Int} (E : EndX N [(6, b, ad)] 6 (some .int) (some (ti r)) [s'] h)  (s : Sg) (a3 : Int) (ha3 : rI a3) (e : fX6_readHead_b39 s a3 = some (r, s')) : AtPc cX6_readHead RX6 1 21 N [s] h 39 [(0, tr (some b)), (3, ti a3)] [] := by
  unfold fX6_readHead_b39 at e
  refine r_rrs E.p (fun rr => ?_)
  refine r_aload_n dX6_readHead_39 rfl 0 rfl ?_
  refine r_iload_n dX6_readHead_40 rfl 1 rfl ?_
  obtain ⟨p1, q2, e⟩ := bd_o e
  have k3 := kX6_broken (G := nG N) (b := b) (ad := ad) (h := h) ha3 q2
  have z4 := (k3 rr).1.2.2.2
  refine r_callV (j := some 0) 1 [ti a3] (rec_sg (j := 0) (r := (RX6, TX6, 63)) rfl (by rw [E.p]; rfl)) rfl k3 (injO_1 E.p) (subO_1 E.p) getO_1 setO_1 (lw_V q1630 q1632 qs51 q123 q1633) (by decide +kernel) rfl (Nat.le_of_ble_eq_true rfl) (Nat.le_of_ble_eq_true rfl) rfl (Nat.le_of_ble_eq_true rfl) dX6_readHead_41 rfl ?_
  refine r_rrs E.p (fun rr5 => ?_)
  cases e
  exact r_iret E.σ E.st E.rt E.r z4 dX6_readHead_44
def fX6_readHead_b5 (K5 : Sg → Int → Int → Int → Int → Option (Int × Sg)) (s : Sg) (a1 : Int) (a2 : Int) (a3 : Int) (a4 : Int) : Option (Int × Sg) := if a4 ≤ 0 then gd (inb a2 6) (gd (inb a2 6) (some (a3, sA (sA s 28 a2 a1) 29 a2 (wr (a3 - a1))))) else bd (fX6_at s a3) fun p6 => bd (fX6_wants p6) fun p10 => if p10 = (-1) then fX6_readHead_b39 s a3 else if (wr ((wr ((wr (a3 - a1)) + a4)) + p10)) ≤ 5 then K5 s a1 a2 (wr (a3 + 1)) (wr (a4 + (wr (p10 - 1)))) else fX6_readHead_b39 s a3
theorem wX6_readHead_b5 {N : Nx} {b : Nat} {ad : Nat → Nat} {s' : Sg} {h : hS} {r : Int} (E : EndX N [(6, b, ad)] 6 (some .int) (some (ti r)) [s'] h) (K5 : Sg → Int → Int → Int → Int → Option (Int × Sg)) (hK5 : ∀ (s : Sg) (a1 : Int) (a2 : Int) (a3 : Int) (a4 : Int) (ha1 : rI a1) (ha2 : rI a2) (ha3 : rI a3) (ha4 : rI a4), K5 s a1 a2 a3 a4 = some (r, s') → AtPc cX6_readHead RX6 1 21 N [s] h 5 [(0, tr (some b)), (1, ti a1), (2, ti a2), (3, ti a3), (4, ti a4)] []) (s : Sg) (a1 : Int) (a2 : Int) (a3 : Int) (a4 : Int) (ha1 : rI a1) (ha2 : rI a2) (ha3 : rI a3) (ha4 : rI a4) (e : fX6_readHead_b5 K5 s a1 a2 a3 a4 = some (r, s')) : AtPc cX6_readHead RX6 1 21 N [s] h 5 [(0, tr (some b)), (1, ti a1), (2, ti a2), (3, ti a3), (4, ti a4)] [] := by
  unfold fX6_readHead_b5 at e
  refine r_rrs E.p (fun rr => ?_)
  refine r_iload dX6_readHead_5 4 rfl ?_
  have eT := (r_ifo e).1
  have eF := (r_ifo e).2
  refine r_if_le ha4 60 dX6_readHead_7 (by decide) (fun c1 => ?_) (fun c1 => ?_)
  · have e := eT c1
    refine r_aload_n dX6_readHead_60 rfl 0 rfl ?_
    refine r_sR E.p 28 fG_X6_68 (by decide) dX6_readHead_61 ?_
    refine r_iload_n dX6_readHead_64 rfl 2 rfl ?_
    refine r_iload_n dX6_readHead_65 rfl 1 rfl ?_
    obtain ⟨g2, e⟩ := gd_o e
    refine r_saP E.p 28 rfl (by decide) (by decide) ha2 g2 ha1 rfl dX6_readHead_66 ?_
    refine r_rrs E.p (fun rr3 => ?_)
    refine r_aload_n dX6_readHead_67 rfl 0 rfl ?_
    refine r_sR E.p 29 fG_X6_71 (by decide) dX6_readHead_68 ?_
    refine r_iload_n dX6_readHead_71 rfl 2 rfl ?_
    refine r_iload_n dX6_readHead_72 rfl 3 rfl ?_
    refine r_iload_n dX6_readHead_73 rfl 1 rfl ?_
    refine r_isub dX6_readHead_74 ?_
    obtain ⟨g4, e⟩ := gd_o e
    refine r_saP E.p 29 rfl (by decide) (by decide) ha2 g4 (wr_r _) rfl dX6_readHead_75 ?_
    refine r_rrs E.p (fun rr5 => ?_)
    refine r_iload_n dX6_readHead_76 rfl 3 rfl ?_
    cases e
    exact r_iret E.σ E.st E.rt E.r ha3 dX6_readHead_77
  · have e := eF c1
    refine r_aload_n dX6_readHead_10 rfl 0 rfl ?_
    refine r_iload_n dX6_readHead_11 rfl 3 rfl ?_
    obtain ⟨p6, q7, e⟩ := bd_o e
    have k8 := kX6_at (G := nG N) (b := b) (ad := ad) (h := h) ha3 q7
    have z9 := (k8 rr).1.2.2.2
    refine r_callV (j := some 0) 1 [ti a3] (rec_sg (j := 0) (r := (RX6, TX6, 63)) rfl (by rw [E.p]; rfl)) rfl k8 (injO_1 E.p) (subO_1 E.p) getO_1 setO_1 (lw_V q1622 q1624 qs49 q123 q1625) (by decide +kernel) rfl (Nat.le_of_ble_eq_true rfl) (Nat.le_of_ble_eq_true rfl) rfl (Nat.le_of_ble_eq_true rfl) dX6_readHead_12 rfl ?_
    obtain ⟨p10, q11, e⟩ := bd_o e
    have k12 := kX6_wants (G := nG N) (h := h) z9 q11
    have z13 := (k12 rr.none).1.2.2.2
    refine r_callS (j := none) 1 [ti p6] k12 (injO_1 E.p) subO_0 getO_0 setO_0 (lw_S q1645 q1646 q123 q1647) (by decide +kernel) rfl (Nat.le_of_ble_eq_true rfl) (Nat.le_of_ble_eq_true rfl) rfl (Nat.le_of_ble_eq_true rfl) dX6_readHead_15 rfl ?_
    refine r_istore (lv' := [(5, ti p10), (0, tr (some b)), (1, ti a1), (2, ti a2), (3, ti a3), (4, ti a4)]) dX6_readHead_18 (E.lt (by decide)) rfl ?_
    refine r_iload dX6_readHead_20 0 rfl ?_
    refine r_iconst dX6_readHead_22 ?_
    have eT := (r_ifo e).1
    have eF := (r_ifo e).2
    refine r_icmp_eq z13 (by decide) 39 dX6_readHead_23 (by decide) (fun c14 => ?_) (fun c14 => ?_)
    · have e := eT c14
      refine r_sub [1, 4] rfl ?_
      exact wX6_readHead_b39 E s a3 ha3 e
    · have e := eF c14
      refine r_iload_n dX6_readHead_26 rfl 4 rfl ?_
      refine r_iload_n dX6_readHead_27 rfl 2 rfl ?_
      refine r_isub dX6_readHead_28 ?_
      refine r_iload dX6_readHead_29 5 rfl ?_
      refine r_iadd dX6_readHead_31 ?_
      refine r_iload dX6_readHead_32 0 rfl ?_
      refine r_iadd dX6_readHead_34 ?_
      refine r_iconst dX6_readHead_35 ?_
      have eT := (r_ifo e).1
      have eF := (r_ifo e).2
      refine r_icmp_le (wr_r _) (by decide) 45 dX6_readHead_36 (by decide) (fun c15 => ?_) (fun c15 => ?_)
      · have e := eT c15
        refine r_iload dX6_readHead_45 5 rfl ?_
        refine r_iload dX6_readHead_47 0 rfl ?_
        refine r_iconst dX6_readHead_49 ?_
        refine r_isub dX6_readHead_50 ?_
        refine r_iadd dX6_readHead_51 ?_
        refine r_istore (lv' := [(4, ti (wr (a4 + (wr (p10 - 1))))), (5, ti p10), (0, tr (some b)), (1, ti a1), (2, ti a2), (3, ti a3)]) dX6_readHead_52 (E.lt (by decide)) rfl ?_
        refine r_iinc (lv' := [(3, ti (wr (a3 + 1))), (4, ti (wr (a4 + (wr (p10 - 1))))), (5, ti p10), (0, tr (some b)), (1, ti a1), (2, ti a2)]) dX6_readHead_54 5 rfl (E.lt (by decide)) rfl ?_
        refine r_goto 5 dX6_readHead_57 (by decide) ?_
        refine r_sub [3, 4, 5, 0, 1] rfl ?_
        exact hK5 s a1 a2 (wr (a3 + 1)) (wr (a4 + (wr (p10 - 1)))) ha1 ha2 (wr_r _) (wr_r _) e
      · have e := eF c15
        refine r_sub [1, 4] rfl ?_
        exact wX6_readHead_b39 E s a3 ha3 e
def fX6_readHead_L5  : Nat → Sg → Int → Int → Int → Int → Option (Int × Sg)
  | 0, _, _, _, _, _ => none
  | n9 + 1, s, a1, a2, a3, a4 => fX6_readHead_b5 (fX6_readHead_L5 n9) s a1 a2 a3 a4
theorem wX6_readHead_L5 {N : Nx} {b : Nat} {ad : Nat → Nat} {s' : Sg} {h : hS} {r : Int} (E : EndX N [(6, b, ad)] 6 (some .int) (some (ti r)) [s'] h)  : ∀ (n9 : Nat), ∀ (s : Sg) (a1 : Int) (a2 : Int) (a3 : Int) (a4 : Int) (ha1 : rI a1) (ha2 : rI a2) (ha3 : rI a3) (ha4 : rI a4), fX6_readHead_L5 n9 s a1 a2 a3 a4 = some (r, s') → AtPc cX6_readHead RX6 1 21 N [s] h 5 [(0, tr (some b)), (1, ti a1), (2, ti a2), (3, ti a3), (4, ti a4)] [] := by
  intro n9
  induction n9 with
  | zero => intro s a1 a2 a3 a4 ha1 ha2 ha3 ha4 e; cases e
  | succ n9 ih => intro s a1 a2 a3 a4 ha1 ha2 ha3 ha4 e; exact wX6_readHead_b5 E _ ih s a1 a2 a3 a4 ha1 ha2 ha3 ha4 e
def fX6_readHead  (s : Sg) (a1 : Int) (a2 : Int) : Option (Int × Sg) := fX6_readHead_L5 FU s a1 a2 a1 1
theorem kX6_readHead {G : Gx}  {b : Nat} {ad : Nat → Nat} {s' : Sg} {h : hS} {r : Int} {s : Sg} {a1 : Int} {a2 : Int}  (ha1 : rI a1) (ha2 : rI a2) (e : fX6_readHead s a1 a2 = some (r, s')) : CtX G yX6_readHead cX6_readHead 6 (some .int) 1 21 [(6, b, ad)] [s] h [tr (some b), ti a1, ti a2] (some (ti r)) [s'] h := by
  refine CtX.of (by decide) (Nat.le_of_ble_eq_true rfl) [(0, tr (some b)), (1, ti a1), (2, ti a2)] rfl ?_
  have E : EndX (G, 6, [(6, b, ad)], h, [s'], h, (some .int), (some (ti r)), yX6_readHead.name) [(6, b, ad)] 6 (some .int) (some (ti r)) [s'] h := ⟨rfl, rfl, rfl, rfl, rfl, rfl⟩
  unfold fX6_readHead at e
  refine r_rrs E.p (fun rr => ?_)
  refine r_iload_n dX6_readHead_0 rfl 1 rfl ?_
  refine r_istore_n (lv' := [(3, ti a1), (0, tr (some b)), (1, ti a1), (2, ti a2)]) dX6_readHead_1 rfl (E.lt (by decide)) rfl ?_
  refine r_iconst dX6_readHead_2 ?_
  refine r_istore (lv' := [(4, ti 1), (3, ti a1), (0, tr (some b)), (1, ti a1), (2, ti a2)]) dX6_readHead_3 (E.lt (by decide)) rfl ?_
  refine r_sub [2, 3, 4, 1, 0] rfl ?_
  exact wX6_readHead_L5 E FU s a1 a2 a1 1 ha1 ha2 ha1 (by decide) e
def fX6_isInHead_b42 (K5 : Sg → Int → Int → Int → Int → Option (Int)) (s : Sg) (a1 : Int) (a2 : Int) (a4 : Int) (k0 : Int) : Option (Int) := K5 s a1 a2 k0 (wr (a4 + 1))
theorem wX6_isInHead_b42 {N : Nx} {b : Nat} {ad : Nat → Nat} {s : Sg} {h : hS} {r : Int} (E : EndX N [(6, b, ad)] 5 (some .boolean) (some (ti r)) [s] h) (K5 : Sg → Int → Int → Int → Int → Option (Int)) (hK5 : ∀ (a1 : Int) (a2 : Int) (a3 : Int) (a4 : Int) (ha1 : rI a1) (ha2 : rI a2) (ha3 : rI a3) (ha4 : rI a4), K5 s a1 a2 a3 a4 = some (r) → AtPc cX6_isInHead RX6 1 21 N [s] h 5 [(0, tr (some b)), (1, ti a1), (2, ti a2), (3, ti a3), (4, ti a4)] []) (a1 : Int) (a2 : Int) (a4 : Int) (k0 : Int) (ha1 : rI a1) (ha2 : rI a2) (ha4 : rI a4) (hk0 : rI k0) (e : fX6_isInHead_b42 K5 s a1 a2 a4 k0 = some (r)) : AtPc cX6_isInHead RX6 1 21 N [s] h 42 [(0, tr (some b)), (1, ti a1), (2, ti a2), (4, ti a4)] [ti k0] := by
  unfold fX6_isInHead_b42 at e
  refine r_rrs E.p (fun rr => ?_)
  refine r_istore_n (lv' := [(3, ti k0), (0, tr (some b)), (1, ti a1), (2, ti a2), (4, ti a4)]) dX6_isInHead_42 rfl (E.lt (by decide)) rfl ?_
  refine r_iinc (lv' := [(4, ti (wr (a4 + 1))), (3, ti k0), (0, tr (some b)), (1, ti a1), (2, ti a2)]) dX6_isInHead_43 4 rfl (E.lt (by decide)) rfl ?_
  refine r_goto 5 dX6_isInHead_46 (by decide) ?_
  refine r_sub [2, 3, 4, 1, 0] rfl ?_
  exact hK5 a1 a2 k0 (wr (a4 + 1)) ha1 ha2 hk0 (wr_r _) e
def fX6_isInHead_b37 (K5 : Sg → Int → Int → Int → Int → Option (Int)) (s : Sg) (a1 : Int) (a2 : Int) (a4 : Int) : Option (Int) := fX6_isInHead_b42 K5 s a1 a2 a4 1
theorem wX6_isInHead_b37 {N : Nx} {b : Nat} {ad : Nat → Nat} {s : Sg} {h : hS} {r : Int} (E : EndX N [(6, b, ad)] 5 (some .boolean) (some (ti r)) [s] h) (K5 : Sg → Int → Int → Int → Int → Option (Int)) (hK5 : ∀ (a1 : Int) (a2 : Int) (a3 : Int) (a4 : Int) (ha1 : rI a1) (ha2 : rI a2) (ha3 : rI a3) (ha4 : rI a4), K5 s a1 a2 a3 a4 = some (r) → AtPc cX6_isInHead RX6 1 21 N [s] h 5 [(0, tr (some b)), (1, ti a1), (2, ti a2), (3, ti a3), (4, ti a4)] []) (a1 : Int) (a2 : Int) (a4 : Int) (ha1 : rI a1) (ha2 : rI a2) (ha4 : rI a4) (e : fX6_isInHead_b37 K5 s a1 a2 a4 = some (r)) : AtPc cX6_isInHead RX6 1 21 N [s] h 37 [(0, tr (some b)), (1, ti a1), (2, ti a2), (4, ti a4)] [] := by
  unfold fX6_isInHead_b37 at e
  refine r_rrs E.p (fun rr => ?_)
  refine r_iconst dX6_isInHead_37 ?_
  refine r_goto 42 dX6_isInHead_38 (by decide) ?_
  exact wX6_isInHead_b42 E K5 hK5 a1 a2 a4 1 ha1 ha2 ha4 (by decide) e
def fX6_isInHead_b5 (K5 : Sg → Int → Int → Int → Int → Option (Int)) (s : Sg) (a1 : Int) (a2 : Int) (a3 : Int) (a4 : Int) : Option (Int) := gd (inb a1 6) (if (gA s 29 a1) ≤ a4 then gd (a3 = 0 ∨ a3 = 1) (some a3) else if ¬ a3 = 0 then fX6_isInHead_b37 K5 s a1 a2 a4 else gd (inb a1 6) (bd (fX6_at s (wr ((gA s 28 a1) + a4))) fun p6 => if ¬ p6 = a2 then fX6_isInHead_b42 K5 s a1 a2 a4 0 else fX6_isInHead_b37 K5 s a1 a2 a4))
theorem wX6_isInHead_b5 {N : Nx} {b : Nat} {ad : Nat → Nat} {s : Sg} {h : hS} {r : Int} (E : EndX N [(6, b, ad)] 5 (some .boolean) (some (ti r)) [s] h) (K5 : Sg → Int → Int → Int → Int → Option (Int)) (hK5 : ∀ (a1 : Int) (a2 : Int) (a3 : Int) (a4 : Int) (ha1 : rI a1) (ha2 : rI a2) (ha3 : rI a3) (ha4 : rI a4), K5 s a1 a2 a3 a4 = some (r) → AtPc cX6_isInHead RX6 1 21 N [s] h 5 [(0, tr (some b)), (1, ti a1), (2, ti a2), (3, ti a3), (4, ti a4)] []) (a1 : Int) (a2 : Int) (a3 : Int) (a4 : Int) (ha1 : rI a1) (ha2 : rI a2) (ha3 : rI a3) (ha4 : rI a4) (e : fX6_isInHead_b5 K5 s a1 a2 a3 a4 = some (r)) : AtPc cX6_isInHead RX6 1 21 N [s] h 5 [(0, tr (some b)), (1, ti a1), (2, ti a2), (3, ti a3), (4, ti a4)] [] := by
  unfold fX6_isInHead_b5 at e
  refine r_rrs E.p (fun rr => ?_)
  refine r_iload dX6_isInHead_5 4 rfl ?_
  refine r_aload_n dX6_isInHead_7 rfl 0 rfl ?_
  refine r_sR E.p 29 fG_X6_71 (by decide) dX6_isInHead_8 ?_
  refine r_iload_n dX6_isInHead_11 rfl 1 rfl ?_
  obtain ⟨g1, e⟩ := gd_o e
  refine r_saI E.p 29 rfl (by decide) (by decide) ha1 g1 rfl dX6_isInHead_12 ?_
  have eT := (r_ifo e).1
  have eF := (r_ifo e).2
  refine r_icmp_ge ha4 (((rr.mine rfl).a 29 (by decide) rfl).1 _) 49 dX6_isInHead_13 (by decide) (fun c2 => ?_) (fun c2 => ?_)
  · have e := eT c2
    refine r_iload_n dX6_isInHead_49 rfl 3 rfl ?_
    obtain ⟨g3, e⟩ := gd_o e
    cases e
    exact r_zret E.σ E.st E.rt E.r g3 dX6_isInHead_50
  · have e := eF c2
    refine r_iload_n dX6_isInHead_16 rfl 3 rfl ?_
    have eT := (r_ifo e).1
    have eF := (r_ifo e).2
    refine r_if_ne ha3 37 dX6_isInHead_17 (by decide) (fun c4 => ?_) (fun c4 => ?_)
    · have e := eT c4
      refine r_sub [0, 1, 2, 4] rfl ?_
      exact wX6_isInHead_b37 E K5 hK5 a1 a2 a4 ha1 ha2 ha4 e
    · have e := eF c4
      refine r_aload_n dX6_isInHead_20 rfl 0 rfl ?_
      refine r_aload_n dX6_isInHead_21 rfl 0 rfl ?_
      refine r_sR E.p 28 fG_X6_68 (by decide) dX6_isInHead_22 ?_
      refine r_iload_n dX6_isInHead_25 rfl 1 rfl ?_
      obtain ⟨g5, e⟩ := gd_o e
      refine r_saI E.p 28 rfl (by decide) (by decide) ha1 g5 rfl dX6_isInHead_26 ?_
      refine r_iload dX6_isInHead_27 4 rfl ?_
      refine r_iadd dX6_isInHead_29 ?_
      obtain ⟨p6, q7, e⟩ := bd_o e
      have k8 := kX6_at (G := nG N) (b := b) (ad := ad) (h := h) (wr_r _) q7
      have z9 := (k8 rr).1.2.2.2
      refine r_callV (j := some 0) 1 [ti (wr ((gA s 28 a1) + a4))] (rec_sg (j := 0) (r := (RX6, TX6, 63)) rfl (by rw [E.p]; rfl)) rfl k8 (injO_1 E.p) (subO_1 E.p) getO_1 setO_1 (lw_V q1622 q1624 qs49 q123 q1625) (by decide +kernel) rfl (Nat.le_of_ble_eq_true rfl) (Nat.le_of_ble_eq_true rfl) rfl (Nat.le_of_ble_eq_true rfl) dX6_isInHead_30 rfl ?_
      refine r_iload_n dX6_isInHead_33 rfl 2 rfl ?_
      have eT := (r_ifo e).1
      have eF := (r_ifo e).2
      refine r_icmp_ne z9 ha2 41 dX6_isInHead_34 (by decide) (fun c10 => ?_) (fun c10 => ?_)
      · have e := eT c10
        refine r_iconst dX6_isInHead_41 ?_
        refine r_sub [0, 1, 2, 4] rfl ?_
        exact wX6_isInHead_b42 E K5 hK5 a1 a2 a4 0 ha1 ha2 ha4 (by decide) e
      · have e := eF c10
        refine r_sub [0, 1, 2, 4] rfl ?_
        exact wX6_isInHead_b37 E K5 hK5 a1 a2 a4 ha1 ha2 ha4 e
def fX6_isInHead_L5  : Nat → Sg → Int → Int → Int → Int → Option (Int)
  | 0, _, _, _, _, _ => none
  | n9 + 1, s, a1, a2, a3, a4 => fX6_isInHead_b5 (fX6_isInHead_L5 n9) s a1 a2 a3 a4
theorem wX6_isInHead_L5 {N : Nx} {b : Nat} {ad : Nat → Nat} {s : Sg} {h : hS} {r : Int} (E : EndX N [(6, b, ad)] 5 (some .boolean) (some (ti r)) [s] h)  : ∀ (n9 : Nat), ∀ (a1 : Int) (a2 : Int) (a3 : Int) (a4 : Int) (ha1 : rI a1) (ha2 : rI a2) (ha3 : rI a3) (ha4 : rI a4), fX6_isInHead_L5 n9 s a1 a2 a3 a4 = some (r) → AtPc cX6_isInHead RX6 1 21 N [s] h 5 [(0, tr (some b)), (1, ti a1), (2, ti a2), (3, ti a3), (4, ti a4)] [] := by
  intro n9
  induction n9 with
  | zero => intro a1 a2 a3 a4 ha1 ha2 ha3 ha4 e; cases e
  | succ n9 ih => intro a1 a2 a3 a4 ha1 ha2 ha3 ha4 e; exact wX6_isInHead_b5 E _ ih a1 a2 a3 a4 ha1 ha2 ha3 ha4 e
def fX6_isInHead  (s : Sg) (a1 : Int) (a2 : Int) : Option (Int) := fX6_isInHead_L5 FU s a1 a2 0 0
theorem kX6_isInHead {G : Gx}  {b : Nat} {ad : Nat → Nat} {s : Sg} {h : hS} {r : Int} {a1 : Int} {a2 : Int}  (ha1 : rI a1) (ha2 : rI a2) (e : fX6_isInHead s a1 a2 = some (r)) : CtX G yX6_isInHead cX6_isInHead 5 (some .boolean) 1 21 [(6, b, ad)] [s] h [tr (some b), ti a1, ti a2] (some (ti r)) [s] h := by
  refine CtX.of (by decide) (Nat.le_of_ble_eq_true rfl) [(0, tr (some b)), (1, ti a1), (2, ti a2)] rfl ?_
  have E : EndX (G, 5, [(6, b, ad)], h, [s], h, (some .boolean), (some (ti r)), yX6_isInHead.name) [(6, b, ad)] 5 (some .boolean) (some (ti r)) [s] h := ⟨rfl, rfl, rfl, rfl, rfl, rfl⟩
  unfold fX6_isInHead at e
  refine r_rrs E.p (fun rr => ?_)
  refine r_iconst dX6_isInHead_0 ?_
  refine r_istore_n (lv' := [(3, ti 0), (0, tr (some b)), (1, ti a1), (2, ti a2)]) dX6_isInHead_1 rfl (E.lt (by decide)) rfl ?_
  refine r_iconst dX6_isInHead_2 ?_
  refine r_istore (lv' := [(4, ti 0), (3, ti 0), (0, tr (some b)), (1, ti a1), (2, ti a2)]) dX6_isInHead_3 (E.lt (by decide)) rfl ?_
  refine r_sub [2, 3, 4, 1, 0] rfl ?_
  exact wX6_isInHead_L5 E FU a1 a2 0 0 ha1 ha2 (by decide) (by decide) e
def fX6_isVariable_b17 (k0 : Int) : Option (Int) := gd (k0 = 0 ∨ k0 = 1) (some k0)
theorem wX6_isVariable_b17 {N : Nx} {h : hS} {r : Int} (E : EndX N [] 1 (some .boolean) (some (ti r)) [] h)  (k0 : Int) (hk0 : rI k0) (e : fX6_isVariable_b17 k0 = some (r)) : AtPc cX6_isVariable RX6 0 0 N [] h 17 [] [ti k0] := by
  unfold fX6_isVariable_b17 at e
  refine r_rrs E.p (fun rr => ?_)
  obtain ⟨g1, e⟩ := gd_o e
  cases e
  exact r_zret E.σ E.st E.rt E.r g1 dX6_isVariable_17
def fX6_isVariable_b12  : Option (Int) := fX6_isVariable_b17 1
theorem wX6_isVariable_b12 {N : Nx} {h : hS} {r : Int} (E : EndX N [] 1 (some .boolean) (some (ti r)) [] h)   (e : fX6_isVariable_b12 = some (r)) : AtPc cX6_isVariable RX6 0 0 N [] h 12 [] [] := by
  unfold fX6_isVariable_b12 at e
  refine r_rrs E.p (fun rr => ?_)
  refine r_iconst dX6_isVariable_12 ?_
  refine r_goto 17 dX6_isVariable_13 (by decide) ?_
  exact wX6_isVariable_b17 E 1 (by decide) e
def fX6_isVariable  (a0 : Int) : Option (Int) := if a0 = 120 then fX6_isVariable_b12 else if ¬ a0 = 121 then fX6_isVariable_b17 0 else fX6_isVariable_b12
theorem kX6_isVariable {G : Gx}  {h : hS} {r : Int} {a0 : Int}  (ha0 : rI a0) (e : fX6_isVariable a0 = some (r)) : CtX G yX6_isVariable cX6_isVariable 1 (some .boolean) 0 0 [] [] h [ti a0] (some (ti r)) [] h := by
  refine CtX.of (by decide) (Nat.le_of_ble_eq_true rfl) [(0, ti a0)] rfl ?_
  have E : EndX (G, 1, [], h, [], h, (some .boolean), (some (ti r)), yX6_isVariable.name) [] 1 (some .boolean) (some (ti r)) [] h := ⟨rfl, rfl, rfl, rfl, rfl, rfl⟩
  unfold fX6_isVariable at e
  refine r_rrs E.p (fun rr => ?_)
  refine r_iload_n dX6_isVariable_0 rfl 0 rfl ?_
  refine r_bipush dX6_isVariable_1 (by decide) ?_
  have eT := (r_ifo e).1
  have eF := (r_ifo e).2
  refine r_icmp_eq ha0 (by decide) 12 dX6_isVariable_3 (by decide) (fun c1 => ?_) (fun c1 => ?_)
  · have e := eT c1
    refine r_sub [] rfl ?_
    exact wX6_isVariable_b12 E e
  · have e := eF c1
    refine r_iload_n dX6_isVariable_6 rfl 0 rfl ?_
    refine r_bipush dX6_isVariable_7 (by decide) ?_
    have eT := (r_ifo e).1
    have eF := (r_ifo e).2
    refine r_icmp_ne ha0 (by decide) 16 dX6_isVariable_9 (by decide) (fun c2 => ?_) (fun c2 => ?_)
    · have e := eT c2
      refine r_iconst dX6_isVariable_16 ?_
      refine r_sub [] rfl ?_
      exact wX6_isVariable_b17 E 0 (by decide) e
    · have e := eF c2
      refine r_sub [] rfl ?_
      exact wX6_isVariable_b12 E e
theorem fG_X6_74 : FldG RX6 74 [(6, 30)] := List.forall_mem_cons.mpr ⟨⟨RX6, TX6, 63, "DictProofModel", rfl, in_X6, by decide, q1435, Or.inl rfl⟩, fun _ h => absurd h List.not_mem_nil⟩
theorem fG_X6_77 : FldG RX6 77 [(6, 31)] := List.forall_mem_cons.mpr ⟨⟨RX6, TX6, 63, "DictProofModel", rfl, in_X6, by decide, q1436, Or.inl rfl⟩, fun _ h => absurd h List.not_mem_nil⟩
def fX6_readConditions_b111 (s : Sg) (a3 : Int) : Option (Int × Sg) := bd (fX6_broken s (wr (a3 + 1))) fun p1 => some (p1.1, p1.2)
theorem wX6_readConditions_b111 {N : Nx} {b : Nat} {ad : Nat → Nat} {s' : Sg} {h : hS} {r : Int} (E : EndX N [(6, b, ad)] 5 (some .int) (some (ti r)) [s'] h)  (s : Sg) (a3 : Int) (ha3 : rI a3) (e : fX6_readConditions_b111 s a3 = some (r, s')) : AtPc cX6_readConditions RX6 2 45 N [s] h 111 [(0, tr (some b)), (3, ti a3)] [] := by
  unfold fX6_readConditions_b111 at e
  refine r_rrs E.p (fun rr => ?_)
  refine r_aload_n dX6_readConditions_111 rfl 0 rfl ?_
  refine r_iload_n dX6_readConditions_112 rfl 1 rfl ?_
  refine r_iconst dX6_readConditions_113 ?_
  refine r_iadd dX6_readConditions_114 ?_
  obtain ⟨p1, q2, e⟩ := bd_o e
  have k3 := kX6_broken (G := nG N) (b := b) (ad := ad) (h := h) (wr_r _) q2
  have z4 := (k3 rr).1.2.2.2
  refine r_callV (j := some 0) 1 [ti (wr (a3 + 1))] (rec_sg (j := 0) (r := (RX6, TX6, 63)) rfl (by rw [E.p]; rfl)) rfl k3 (injO_1 E.p) (subO_1 E.p) getO_1 setO_1 (lw_V q1630 q1632 qs51 q123 q1633) (by decide +kernel) rfl (Nat.le_of_ble_eq_true rfl) (Nat.le_of_ble_eq_true rfl) rfl (Nat.le_of_ble_eq_true rfl) dX6_readConditions_115 rfl ?_
  refine r_rrs E.p (fun rr5 => ?_)
  cases e
  exact r_iret E.σ E.st E.rt E.r z4 dX6_readConditions_118
def fX6_readConditions_b151 (s : Sg) (a3 : Int) : Option (Int × Sg) := some (a3, s)
theorem wX6_readConditions_b151 {N : Nx} {b : Nat} {ad : Nat → Nat} {s' : Sg} {h : hS} {r : Int} (E : EndX N [(6, b, ad)] 5 (some .int) (some (ti r)) [s'] h)  (s : Sg) (a3 : Int) (ha3 : rI a3) (e : fX6_readConditions_b151 s a3 = some (r, s')) : AtPc cX6_readConditions RX6 2 45 N [s] h 151 [(3, ti a3)] [] := by
  unfold fX6_readConditions_b151 at e
  refine r_rrs E.p (fun rr => ?_)
  refine r_iload_n dX6_readConditions_151 rfl 0 rfl ?_
  cases e
  exact r_iret E.σ E.st E.rt E.r ha3 dX6_readConditions_152
def fX6_readConditions_b36 (K36 : Sg → Int → Int → Int → Option (Int × Sg)) (s : Sg) (a2 : Int) (a3 : Int) (a4 : Int) : Option (Int × Sg) := gd (inb a2 6) (if 2 ≤ (gA s 30 a2) then fX6_readConditions_b151 s a3 else if a4 = 0 then fX6_readConditions_b151 s a3 else bd (fX6_figure s a3) fun p4 => bd (fX6_within p4 0 9) fun p8 => if p8 = 0 then fX6_readConditions_b151 s a3 else bd (fX6_figure s a3) fun p13 => if p13 < (gI s 23) then bd (fX6_at s (wr (a3 + 1))) fun p18 => bd (fX6_isVariable p18) fun p22 => if p22 = 0 then fX6_readConditions_b111 s a3 else bd (fX6_at s (wr (a3 + 1))) fun p27 => bd (fX6_isInHead s a2 p27) fun p31 => if ¬ p31 = 0 then gd (inb a2 6) (gd (inb (wr ((wr (2 * a2)) + (gA s 30 a2))) 12) (gd (inb a2 6) (gd (inb a2 6) (K36 (sA (sA s 31 (wr ((wr (2 * a2)) + (gA s 30 a2))) a3) 30 a2 (wr ((gA (sA s 31 (wr ((wr (2 * a2)) + (gA s 30 a2))) a3) 30 a2) + 1))) a2 (wr (a3 + 2)) a4)))) else fX6_readConditions_b111 s a3 else bd (fX6_broken s a3) fun p42 => some (p42.1, p42.2))
theorem wX6_readConditions_b36 {N : Nx} {b : Nat} {ad : Nat → Nat} {s' : Sg} {h : hS} {r : Int} (E : EndX N [(6, b, ad)] 5 (some .int) (some (ti r)) [s'] h) (K36 : Sg → Int → Int → Int → Option (Int × Sg)) (hK36 : ∀ (s : Sg) (a2 : Int) (a3 : Int) (a4 : Int) (ha2 : rI a2) (ha3 : rI a3) (ha4 : rI a4), K36 s a2 a3 a4 = some (r, s') → AtPc cX6_readConditions RX6 2 45 N [s] h 36 [(0, tr (some b)), (2, ti a2), (3, ti a3), (4, ti a4)] []) (s : Sg) (a2 : Int) (a3 : Int) (a4 : Int) (ha2 : rI a2) (ha3 : rI a3) (ha4 : rI a4) (e : fX6_readConditions_b36 K36 s a2 a3 a4 = some (r, s')) : AtPc cX6_readConditions RX6 2 45 N [s] h 36 [(0, tr (some b)), (2, ti a2), (3, ti a3), (4, ti a4)] [] := by
  unfold fX6_readConditions_b36 at e
  refine r_rrs E.p (fun rr => ?_)
  refine r_aload_n dX6_readConditions_36 rfl 0 rfl ?_
  refine r_sR E.p 30 fG_X6_74 (by decide) dX6_readConditions_37 ?_
  refine r_iload_n dX6_readConditions_40 rfl 1 rfl ?_
  obtain ⟨g1, e⟩ := gd_o e
  refine r_saI E.p 30 rfl (by decide) (by decide) ha2 g1 rfl dX6_readConditions_41 ?_
  refine r_iconst dX6_readConditions_42 ?_
  have eT := (r_ifo e).1
  have eF := (r_ifo e).2
  refine r_icmp_ge (((rr.mine rfl).a 30 (by decide) rfl).1 _) (by decide) 151 dX6_readConditions_43 (by decide) (fun c2 => ?_) (fun c2 => ?_)
  · have e := eT c2
    refine r_sub [2] rfl ?_
    exact wX6_readConditions_b151 E s a3 ha3 e
  · have e := eF c2
    refine r_iload dX6_readConditions_46 3 rfl ?_
    have eT := (r_ifo e).1
    have eF := (r_ifo e).2
    refine r_if_eq ha4 151 dX6_readConditions_48 (by decide) (fun c3 => ?_) (fun c3 => ?_)
    · have e := eT c3
      refine r_sub [2] rfl ?_
      exact wX6_readConditions_b151 E s a3 ha3 e
    · have e := eF c3
      refine r_aload_n dX6_readConditions_51 rfl 0 rfl ?_
      refine r_iload_n dX6_readConditions_52 rfl 2 rfl ?_
      obtain ⟨p4, q5, e⟩ := bd_o e
      have k6 := kX6_figure (G := nG N) (b := b) (ad := ad) (h := h) ha3 q5
      have z7 := (k6 rr).1.2.2.2
      refine r_callV (j := some 0) 1 [ti a3] (rec_sg (j := 0) (r := (RX6, TX6, 63)) rfl (by rw [E.p]; rfl)) rfl k6 (injO_1 E.p) (subO_1 E.p) getO_1 setO_1 (lw_V q1626 q1628 qs50 q123 q1629) (by decide +kernel) rfl (Nat.le_of_ble_eq_true rfl) (Nat.le_of_ble_eq_true rfl) rfl (Nat.le_of_ble_eq_true rfl) dX6_readConditions_53 rfl ?_
      refine r_iconst dX6_readConditions_56 ?_
      refine r_bipush dX6_readConditions_57 (by decide) ?_
      obtain ⟨p8, q9, e⟩ := bd_o e
      have k10 := kX6_within (G := nG N) (h := h) z7 (by decide) (by decide) q9
      have z11 := (k10 rr.none).1.2.2.2
      refine r_callS (j := none) 3 [ti p4, ti 0, ti 9] k10 (injO_1 E.p) subO_0 getO_0 setO_0 (lw_S q1599 q1600 q123 q1601) (by decide +kernel) rfl (Nat.le_of_ble_eq_true rfl) (Nat.le_of_ble_eq_true rfl) rfl (Nat.le_of_ble_eq_true rfl) dX6_readConditions_59 rfl ?_
      have eT := (r_ifo e).1
      have eF := (r_ifo e).2
      refine r_if_eq (rI_z z11) 151 dX6_readConditions_62 (by decide) (fun c12 => ?_) (fun c12 => ?_)
      · have e := eT c12
        refine r_sub [2] rfl ?_
        exact wX6_readConditions_b151 E s a3 ha3 e
      · have e := eF c12
        refine r_aload_n dX6_readConditions_65 rfl 0 rfl ?_
        refine r_iload_n dX6_readConditions_66 rfl 2 rfl ?_
        obtain ⟨p13, q14, e⟩ := bd_o e
        have k15 := kX6_figure (G := nG N) (b := b) (ad := ad) (h := h) ha3 q14
        have z16 := (k15 rr).1.2.2.2
        refine r_callV (j := some 0) 1 [ti a3] (rec_sg (j := 0) (r := (RX6, TX6, 63)) rfl (by rw [E.p]; rfl)) rfl k15 (injO_1 E.p) (subO_1 E.p) getO_1 setO_1 (lw_V q1626 q1628 qs50 q123 q1629) (by decide +kernel) rfl (Nat.le_of_ble_eq_true rfl) (Nat.le_of_ble_eq_true rfl) rfl (Nat.le_of_ble_eq_true rfl) dX6_readConditions_67 rfl ?_
        refine r_aload_n dX6_readConditions_70 rfl 0 rfl ?_
        refine r_sI E.p 23 fG_X6_162 (by decide) dX6_readConditions_71 ?_
        have eT := (r_ifo e).1
        have eF := (r_ifo e).2
        refine r_icmp_lt z16 ((rr.mine rfl).i 23 (by decide) (by decide)) 83 dX6_readConditions_74 (by decide) (fun c17 => ?_) (fun c17 => ?_)
        · have e := eT c17
          refine r_aload_n dX6_readConditions_83 rfl 0 rfl ?_
          refine r_iload_n dX6_readConditions_84 rfl 2 rfl ?_
          refine r_iconst dX6_readConditions_85 ?_
          refine r_iadd dX6_readConditions_86 ?_
          obtain ⟨p18, q19, e⟩ := bd_o e
          have k20 := kX6_at (G := nG N) (b := b) (ad := ad) (h := h) (wr_r _) q19
          have z21 := (k20 rr).1.2.2.2
          refine r_callV (j := some 0) 1 [ti (wr (a3 + 1))] (rec_sg (j := 0) (r := (RX6, TX6, 63)) rfl (by rw [E.p]; rfl)) rfl k20 (injO_1 E.p) (subO_1 E.p) getO_1 setO_1 (lw_V q1622 q1624 qs49 q123 q1625) (by decide +kernel) rfl (Nat.le_of_ble_eq_true rfl) (Nat.le_of_ble_eq_true rfl) rfl (Nat.le_of_ble_eq_true rfl) dX6_readConditions_87 rfl ?_
          obtain ⟨p22, q23, e⟩ := bd_o e
          have k24 := kX6_isVariable (G := nG N) (h := h) z21 q23
          have z25 := (k24 rr.none).1.2.2.2
          refine r_callS (j := none) 1 [ti p18] k24 (injO_1 E.p) subO_0 getO_0 setO_0 (lw_S q1656 q1657 q123 q1658) (by decide +kernel) rfl (Nat.le_of_ble_eq_true rfl) (Nat.le_of_ble_eq_true rfl) rfl (Nat.le_of_ble_eq_true rfl) dX6_readConditions_90 rfl ?_
          have eT := (r_ifo e).1
          have eF := (r_ifo e).2
          refine r_if_eq (rI_z z25) 111 dX6_readConditions_93 (by decide) (fun c26 => ?_) (fun c26 => ?_)
          · have e := eT c26
            refine r_sub [0, 2] rfl ?_
            exact wX6_readConditions_b111 E s a3 ha3 e
          · have e := eF c26
            refine r_aload_n dX6_readConditions_96 rfl 0 rfl ?_
            refine r_iload_n dX6_readConditions_97 rfl 1 rfl ?_
            refine r_aload_n dX6_readConditions_98 rfl 0 rfl ?_
            refine r_iload_n dX6_readConditions_99 rfl 2 rfl ?_
            refine r_iconst dX6_readConditions_100 ?_
            refine r_iadd dX6_readConditions_101 ?_
            obtain ⟨p27, q28, e⟩ := bd_o e
            have k29 := kX6_at (G := nG N) (b := b) (ad := ad) (h := h) (wr_r _) q28
            have z30 := (k29 rr).1.2.2.2
            refine r_callV (j := some 0) 1 [ti (wr (a3 + 1))] (rec_sg (j := 0) (r := (RX6, TX6, 63)) rfl (by rw [E.p]; rfl)) rfl k29 (injO_1 E.p) (subO_1 E.p) getO_1 setO_1 (lw_V q1622 q1624 qs49 q123 q1625) (by decide +kernel) rfl (Nat.le_of_ble_eq_true rfl) (Nat.le_of_ble_eq_true rfl) rfl (Nat.le_of_ble_eq_true rfl) dX6_readConditions_102 rfl ?_
            obtain ⟨p31, q32, e⟩ := bd_o e
            have k33 := kX6_isInHead (G := nG N) (b := b) (ad := ad) (h := h) ha2 z30 q32
            have z34 := (k33 rr).1.2.2.2
            refine r_callV (j := some 0) 2 [ti a2, ti p27] (rec_sg (j := 0) (r := (RX6, TX6, 63)) rfl (by rw [E.p]; rfl)) rfl k33 (injO_1 E.p) (subO_1 E.p) getO_1 setO_1 (lw_V q1652 q1654 qs55 q123 q1655) (by decide +kernel) rfl (Nat.le_of_ble_eq_true rfl) (Nat.le_of_ble_eq_true rfl) rfl (Nat.le_of_ble_eq_true rfl) dX6_readConditions_105 rfl ?_
            have eT := (r_ifo e).1
            have eF := (r_ifo e).2
            refine r_if_ne (rI_z z34) 119 dX6_readConditions_108 (by decide) (fun c35 => ?_) (fun c35 => ?_)
            · have e := eT c35
              refine r_aload_n dX6_readConditions_119 rfl 0 rfl ?_
              refine r_sR E.p 31 fG_X6_77 (by decide) dX6_readConditions_120 ?_
              refine r_iconst dX6_readConditions_123 ?_
              refine r_iload_n dX6_readConditions_124 rfl 1 rfl ?_
              refine r_imul dX6_readConditions_125 ?_
              refine r_aload_n dX6_readConditions_126 rfl 0 rfl ?_
              refine r_sR E.p 30 fG_X6_74 (by decide) dX6_readConditions_127 ?_
              refine r_iload_n dX6_readConditions_130 rfl 1 rfl ?_
              obtain ⟨g36, e⟩ := gd_o e
              refine r_saI E.p 30 rfl (by decide) (by decide) ha2 g36 rfl dX6_readConditions_131 ?_
              refine r_iadd dX6_readConditions_132 ?_
              refine r_iload_n dX6_readConditions_133 rfl 2 rfl ?_
              obtain ⟨g37, e⟩ := gd_o e
              refine r_saP E.p 31 rfl (by decide) (by decide) (wr_r _) g37 ha3 rfl dX6_readConditions_134 ?_
              refine r_rrs E.p (fun rr38 => ?_)
              refine r_aload_n dX6_readConditions_135 rfl 0 rfl ?_
              refine r_sR E.p 30 fG_X6_74 (by decide) dX6_readConditions_136 ?_
              refine r_iload_n dX6_readConditions_139 rfl 1 rfl ?_
              refine r_dup2 dX6_readConditions_140 rfl rfl ?_
              obtain ⟨g39, e⟩ := gd_o e
              refine r_saI E.p 30 rfl (by decide) (by decide) ha2 g39 rfl dX6_readConditions_141 ?_
              refine r_iconst dX6_readConditions_142 ?_
              refine r_iadd dX6_readConditions_143 ?_
              obtain ⟨g40, e⟩ := gd_o e
              refine r_saP E.p 30 rfl (by decide) (by decide) ha2 g40 (wr_r _) rfl dX6_readConditions_144 ?_
              refine r_rrs E.p (fun rr41 => ?_)
              refine r_iinc (lv' := [(3, ti (wr (a3 + 2))), (0, tr (some b)), (2, ti a2), (4, ti a4)]) dX6_readConditions_145 2 rfl (E.lt (by decide)) rfl ?_
              refine r_goto 36 dX6_readConditions_148 (by decide) ?_
              refine r_sub [1, 2, 0, 3] rfl ?_
              exact hK36 (sA (sA s 31 (wr ((wr (2 * a2)) + (gA s 30 a2))) a3) 30 a2 (wr ((gA (sA s 31 (wr ((wr (2 * a2)) + (gA s 30 a2))) a3) 30 a2) + 1))) a2 (wr (a3 + 2)) a4 ha2 (wr_r _) ha4 e
            · have e := eF c35
              refine r_sub [0, 2] rfl ?_
              exact wX6_readConditions_b111 E s a3 ha3 e
        · have e := eF c17
          refine r_aload_n dX6_readConditions_77 rfl 0 rfl ?_
          refine r_iload_n dX6_readConditions_78 rfl 2 rfl ?_
          obtain ⟨p42, q43, e⟩ := bd_o e
          have k44 := kX6_broken (G := nG N) (b := b) (ad := ad) (h := h) ha3 q43
          have z45 := (k44 rr).1.2.2.2
          refine r_callV (j := some 0) 1 [ti a3] (rec_sg (j := 0) (r := (RX6, TX6, 63)) rfl (by rw [E.p]; rfl)) rfl k44 (injO_1 E.p) (subO_1 E.p) getO_1 setO_1 (lw_V q1630 q1632 qs51 q123 q1633) (by decide +kernel) rfl (Nat.le_of_ble_eq_true rfl) (Nat.le_of_ble_eq_true rfl) rfl (Nat.le_of_ble_eq_true rfl) dX6_readConditions_79 rfl ?_
          refine r_rrs E.p (fun rr46 => ?_)
          cases e
          exact r_iret E.σ E.st E.rt E.r z45 dX6_readConditions_82
def fX6_readConditions_L36  : Nat → Sg → Int → Int → Int → Option (Int × Sg)
  | 0, _, _, _, _ => none
  | n9 + 1, s, a2, a3, a4 => fX6_readConditions_b36 (fX6_readConditions_L36 n9) s a2 a3 a4
theorem wX6_readConditions_L36 {N : Nx} {b : Nat} {ad : Nat → Nat} {s' : Sg} {h : hS} {r : Int} (E : EndX N [(6, b, ad)] 5 (some .int) (some (ti r)) [s'] h)  : ∀ (n9 : Nat), ∀ (s : Sg) (a2 : Int) (a3 : Int) (a4 : Int) (ha2 : rI a2) (ha3 : rI a3) (ha4 : rI a4), fX6_readConditions_L36 n9 s a2 a3 a4 = some (r, s') → AtPc cX6_readConditions RX6 2 45 N [s] h 36 [(0, tr (some b)), (2, ti a2), (3, ti a3), (4, ti a4)] [] := by
  intro n9
  induction n9 with
  | zero => intro s a2 a3 a4 ha2 ha3 ha4 e; cases e
  | succ n9 ih => intro s a2 a3 a4 ha2 ha3 ha4 e; exact wX6_readConditions_b36 E _ ih s a2 a3 a4 ha2 ha3 ha4 e
def fX6_readConditions_b34 (s : Sg) (a2 : Int) (a3 : Int) (k0 : Int) : Option (Int × Sg) := fX6_readConditions_L36 FU s a2 a3 k0
theorem wX6_readConditions_b34 {N : Nx} {b : Nat} {ad : Nat → Nat} {s' : Sg} {h : hS} {r : Int} (E : EndX N [(6, b, ad)] 5 (some .int) (some (ti r)) [s'] h)  (s : Sg) (a2 : Int) (a3 : Int) (k0 : Int) (ha2 : rI a2) (ha3 : rI a3) (hk0 : rI k0) (e : fX6_readConditions_b34 s a2 a3 k0 = some (r, s')) : AtPc cX6_readConditions RX6 2 45 N [s] h 34 [(0, tr (some b)), (2, ti a2), (3, ti a3)] [ti k0] := by
  unfold fX6_readConditions_b34 at e
  refine r_rrs E.p (fun rr => ?_)
  refine r_istore (lv' := [(4, ti k0), (0, tr (some b)), (2, ti a2), (3, ti a3)]) dX6_readConditions_34 (E.lt (by decide)) rfl ?_
  refine r_sub [1, 2, 3, 0] rfl ?_
  exact wX6_readConditions_L36 E FU s a2 a3 k0 ha2 ha3 hk0 e
def fX6_readConditions_b29 (s : Sg) (a2 : Int) (a3 : Int) : Option (Int × Sg) := fX6_readConditions_b34 s a2 a3 1
theorem wX6_readConditions_b29 {N : Nx} {b : Nat} {ad : Nat → Nat} {s' : Sg} {h : hS} {r : Int} (E : EndX N [(6, b, ad)] 5 (some .int) (some (ti r)) [s'] h)  (s : Sg) (a2 : Int) (a3 : Int) (ha2 : rI a2) (ha3 : rI a3) (e : fX6_readConditions_b29 s a2 a3 = some (r, s')) : AtPc cX6_readConditions RX6 2 45 N [s] h 29 [(0, tr (some b)), (2, ti a2), (3, ti a3)] [] := by
  unfold fX6_readConditions_b29 at e
  refine r_rrs E.p (fun rr => ?_)
  refine r_iconst dX6_readConditions_29 ?_
  refine r_goto 34 dX6_readConditions_30 (by decide) ?_
  exact wX6_readConditions_b34 E s a2 a3 1 ha2 ha3 (by decide) e
def fX6_readConditions  (s : Sg) (a1 : Int) (a2 : Int) : Option (Int × Sg) := gd (inb a2 6) (bd (fX6_isInHead (sA s 30 a2 0) a2 120) fun p3 => if ¬ p3 = 0 then fX6_readConditions_b29 (sA s 30 a2 0) a2 a1 else bd (fX6_isInHead (sA s 30 a2 0) a2 121) fun p8 => if p8 = 0 then fX6_readConditions_b34 (sA s 30 a2 0) a2 a1 0 else fX6_readConditions_b29 (sA s 30 a2 0) a2 a1)
theorem kX6_readConditions {G : Gx}  {b : Nat} {ad : Nat → Nat} {s' : Sg} {h : hS} {r : Int} {s : Sg} {a1 : Int} {a2 : Int}  (ha1 : rI a1) (ha2 : rI a2) (e : fX6_readConditions s a1 a2 = some (r, s')) : CtX G yX6_readConditions cX6_readConditions 5 (some .int) 2 45 [(6, b, ad)] [s] h [tr (some b), ti a1, ti a2] (some (ti r)) [s'] h := by
  refine CtX.of (by decide) (Nat.le_of_ble_eq_true rfl) [(0, tr (some b)), (1, ti a1), (2, ti a2)] rfl ?_
  have E : EndX (G, 5, [(6, b, ad)], h, [s'], h, (some .int), (some (ti r)), yX6_readConditions.name) [(6, b, ad)] 5 (some .int) (some (ti r)) [s'] h := ⟨rfl, rfl, rfl, rfl, rfl, rfl⟩
  unfold fX6_readConditions at e
  refine r_rrs E.p (fun rr => ?_)
  refine r_iload_n dX6_readConditions_0 rfl 1 rfl ?_
  refine r_istore_n (lv' := [(3, ti a1), (0, tr (some b)), (1, ti a1), (2, ti a2)]) dX6_readConditions_1 rfl (E.lt (by decide)) rfl ?_
  refine r_aload_n dX6_readConditions_2 rfl 1 rfl ?_
  refine r_sR E.p 30 fG_X6_74 (by decide) dX6_readConditions_3 ?_
  refine r_iload_n dX6_readConditions_6 rfl 3 rfl ?_
  refine r_iconst dX6_readConditions_7 ?_
  obtain ⟨g1, e⟩ := gd_o e
  refine r_saP E.p 30 rfl (by decide) (by decide) ha2 g1 (by show rI _; decide) rfl dX6_readConditions_8 ?_
  refine r_rrs E.p (fun rr2 => ?_)
  refine r_aload_n dX6_readConditions_9 rfl 1 rfl ?_
  refine r_iload_n dX6_readConditions_10 rfl 3 rfl ?_
  refine r_bipush dX6_readConditions_11 (by decide) ?_
  obtain ⟨p3, q4, e⟩ := bd_o e
  have k5 := kX6_isInHead (G := G) (b := b) (ad := ad) (h := h) ha2 (by decide) q4
  have z6 := (k5 rr2).1.2.2.2
  refine r_callV (j := some 0) 2 [ti a2, ti 120] (rec_sg (j := 0) (r := (RX6, TX6, 63)) rfl (by rw [E.p]; rfl)) rfl k5 (injO_1 E.p) (subO_1 E.p) getO_1 setO_1 (lw_V q1652 q1654 qs55 q123 q1655) (by decide +kernel) rfl (Nat.le_of_ble_eq_true rfl) (Nat.le_of_ble_eq_true rfl) rfl (Nat.le_of_ble_eq_true rfl) dX6_readConditions_13 rfl ?_
  have eT := (r_ifo e).1
  have eF := (r_ifo e).2
  refine r_if_ne (rI_z z6) 29 dX6_readConditions_16 (by decide) (fun c7 => ?_) (fun c7 => ?_)
  · have e := eT c7
    refine r_sub [1, 3, 0] rfl ?_
    exact wX6_readConditions_b29 E (sA s 30 a2 0) a2 a1 ha2 ha1 e
  · have e := eF c7
    refine r_aload_n dX6_readConditions_19 rfl 1 rfl ?_
    refine r_iload_n dX6_readConditions_20 rfl 3 rfl ?_
    refine r_bipush dX6_readConditions_21 (by decide) ?_
    obtain ⟨p8, q9, e⟩ := bd_o e
    have k10 := kX6_isInHead (G := G) (b := b) (ad := ad) (h := h) ha2 (by decide) q9
    have z11 := (k10 rr2).1.2.2.2
    refine r_callV (j := some 0) 2 [ti a2, ti 121] (rec_sg (j := 0) (r := (RX6, TX6, 63)) rfl (by rw [E.p]; rfl)) rfl k10 (injO_1 E.p) (subO_1 E.p) getO_1 setO_1 (lw_V q1652 q1654 qs55 q123 q1655) (by decide +kernel) rfl (Nat.le_of_ble_eq_true rfl) (Nat.le_of_ble_eq_true rfl) rfl (Nat.le_of_ble_eq_true rfl) dX6_readConditions_23 rfl ?_
    have eT := (r_ifo e).1
    have eF := (r_ifo e).2
    refine r_if_eq (rI_z z11) 33 dX6_readConditions_26 (by decide) (fun c12 => ?_) (fun c12 => ?_)
    · have e := eT c12
      refine r_iconst dX6_readConditions_33 ?_
      refine r_sub [1, 3, 0] rfl ?_
      exact wX6_readConditions_b34 E (sA s 30 a2 0) a2 a1 0 ha2 ha1 (by decide) e
    · have e := eF c12
      refine r_sub [1, 3, 0] rfl ?_
      exact wX6_readConditions_b29 E (sA s 30 a2 0) a2 a1 ha2 ha1 e
theorem fG_X6_185 : FldG RX6 185 [(6, 24)] := List.forall_mem_cons.mpr ⟨⟨RX6, TX6, 63, "DictProofModel", rfl, in_X6, by decide, q1429, Or.inl rfl⟩, fun _ h => absurd h List.not_mem_nil⟩
theorem fG_X6_62 : FldG RX6 62 [(6, 26)] := List.forall_mem_cons.mpr ⟨⟨RX6, TX6, 63, "DictProofModel", rfl, in_X6, by decide, q1431, Or.inl rfl⟩, fun _ h => absurd h List.not_mem_nil⟩
theorem fG_X6_65 : FldG RX6 65 [(6, 27)] := List.forall_mem_cons.mpr ⟨⟨RX6, TX6, 63, "DictProofModel", rfl, in_X6, by decide, q1432, Or.inl rfl⟩, fun _ h => absurd h List.not_mem_nil⟩
theorem fP_X6_185 : FldP RX6 185 [(6, 24)] .int false := List.forall_mem_cons.mpr ⟨⟨RX6, TX6, 63, "DictProofModel", tyX6, rfl, in_X6, by decide, q1429, Or.inl rfl, tyX6_ok, nmX6, rfl, Or.inl rfl, by decide⟩, fun _ h => absurd h List.not_mem_nil⟩
def fX6_readInstance_b98 (s : Sg) (a3 : Int) : Option (Int × Sg) := some (a3, sI s 24 (wr ((gI s 24) + 1)))
theorem wX6_readInstance_b98 {N : Nx} {b : Nat} {ad : Nat → Nat} {s' : Sg} {h : hS} {r : Int} (E : EndX N [(6, b, ad)] 4 (some .int) (some (ti r)) [s'] h)  (s : Sg) (a3 : Int) (ha3 : rI a3) (e : fX6_readInstance_b98 s a3 = some (r, s')) : AtPc cX6_readInstance RX6 3 69 N [s] h 98 [(0, tr (some b)), (3, ti a3)] [] := by
  unfold fX6_readInstance_b98 at e
  refine r_rrs E.p (fun rr => ?_)
  refine r_aload_n dX6_readInstance_98 rfl 0 rfl ?_
  refine r_dup dX6_readInstance_99 rfl ?_
  refine r_sI E.p 24 fG_X6_185 (by decide) dX6_readInstance_100 ?_
  refine r_iconst dX6_readInstance_103 ?_
  refine r_iadd dX6_readInstance_104 ?_
  refine r_sPI E.p 24 fP_X6_185 rfl (wr_r _) dX6_readInstance_105 ?_
  refine r_rrs E.p (fun rr1 => ?_)
  refine r_iload_n dX6_readInstance_108 rfl 1 rfl ?_
  cases e
  exact r_iret E.σ E.st E.rt E.r ha3 dX6_readInstance_109
def fX6_readInstance  (s : Sg) (a1 : Int) : Option (Int × Sg) := bd (fX6_at s a1) fun p1 => bd (fX6_kindBy p1) fun p5 => gd (inb (gI s 24) 6) (gd (inb (gI s 24) 6) (if ¬ (gA (sA s 26 (gI s 24) p5) 26 (gI s 24)) = (-1) then bd (fX6_figure (sA s 26 (gI s 24) p5) (wr (a1 + 1))) fun p13 => gd (inb (gI s 24) 6) (gd (inb (gI s 24) 6) (bd (fX6_within (gA (sA (sA s 26 (gI s 24) p5) 27 (gI s 24) p13) 27 (gI s 24)) 0 (wr ((gI (sA (sA s 26 (gI s 24) p5) 27 (gI s 24) p13) 23) - 1))) fun p20 => if ¬ p20 = 0 then bd (fX6_readHead (sA (sA s 26 (gI s 24) p5) 27 (gI s 24) p13) (wr (a1 + 2)) (gI s 24)) fun p25 => if ¬ (gI p25.2 22) = 0 then fX6_readInstance_b98 p25.2 p25.1 else bd (fX6_readConditions p25.2 p25.1 (gI s 24)) fun p31 => fX6_readInstance_b98 p31.2 p31.1 else bd (fX6_broken (sA (sA s 26 (gI s 24) p5) 27 (gI s 24) p13) (wr (a1 + 1))) fun p36 => some (p36.1, p36.2))) else bd (fX6_broken (sA s 26 (gI s 24) p5) a1) fun p41 => some (p41.1, p41.2)))
theorem kX6_readInstance {G : Gx}  {b : Nat} {ad : Nat → Nat} {s' : Sg} {h : hS} {r : Int} {s : Sg} {a1 : Int}  (ha1 : rI a1) (e : fX6_readInstance s a1 = some (r, s')) : CtX G yX6_readInstance cX6_readInstance 4 (some .int) 3 69 [(6, b, ad)] [s] h [tr (some b), ti a1] (some (ti r)) [s'] h := by
  refine CtX.of (by decide) (Nat.le_of_ble_eq_true rfl) [(0, tr (some b)), (1, ti a1)] rfl ?_
  have E : EndX (G, 4, [(6, b, ad)], h, [s'], h, (some .int), (some (ti r)), yX6_readInstance.name) [(6, b, ad)] 4 (some .int) (some (ti r)) [s'] h := ⟨rfl, rfl, rfl, rfl, rfl, rfl⟩
  unfold fX6_readInstance at e
  refine r_rrs E.p (fun rr => ?_)
  refine r_aload_n dX6_readInstance_0 rfl 0 rfl ?_
  refine r_sI E.p 24 fG_X6_185 (by decide) dX6_readInstance_1 ?_
  refine r_istore_n (lv' := [(2, ti (gI s 24)), (0, tr (some b)), (1, ti a1)]) dX6_readInstance_4 rfl (E.lt (by decide)) rfl ?_
  refine r_aload_n dX6_readInstance_5 rfl 1 rfl ?_
  refine r_sR E.p 26 fG_X6_62 (by decide) dX6_readInstance_6 ?_
  refine r_iload_n dX6_readInstance_9 rfl 0 rfl ?_
  refine r_aload_n dX6_readInstance_10 rfl 1 rfl ?_
  refine r_iload_n dX6_readInstance_11 rfl 2 rfl ?_
  obtain ⟨p1, q2, e⟩ := bd_o e
  have k3 := kX6_at (G := G) (b := b) (ad := ad) (h := h) ha1 q2
  have z4 := (k3 rr).1.2.2.2
  refine r_callV (j := some 0) 1 [ti a1] (rec_sg (j := 0) (r := (RX6, TX6, 63)) rfl (by rw [E.p]; rfl)) rfl k3 (injO_1 E.p) (subO_1 E.p) getO_1 setO_1 (lw_V q1622 q1624 qs49 q123 q1625) (by decide +kernel) rfl (Nat.le_of_ble_eq_true rfl) (Nat.le_of_ble_eq_true rfl) rfl (Nat.le_of_ble_eq_true rfl) dX6_readInstance_12 rfl ?_
  obtain ⟨p5, q6, e⟩ := bd_o e
  have k7 := kX6_kindBy (G := G) (h := h) z4 q6
  have z8 := (k7 rr.none).1.2.2.2
  refine r_callS (j := none) 1 [ti p1] k7 (injO_1 E.p) subO_0 getO_0 setO_0 (lw_S q1638 q1639 q123 q1640) (by decide +kernel) rfl (Nat.le_of_ble_eq_true rfl) (Nat.le_of_ble_eq_true rfl) rfl (Nat.le_of_ble_eq_true rfl) dX6_readInstance_15 rfl ?_
  obtain ⟨g9, e⟩ := gd_o e
  refine r_saP E.p 26 rfl (by decide) (by decide) ((rr.mine rfl).i 24 (by decide) (by decide)) g9 z8 rfl dX6_readInstance_18 ?_
  refine r_rrs E.p (fun rr10 => ?_)
  refine r_aload_n dX6_readInstance_19 rfl 1 rfl ?_
  refine r_sR E.p 26 fG_X6_62 (by decide) dX6_readInstance_20 ?_
  refine r_iload_n dX6_readInstance_23 rfl 0 rfl ?_
  obtain ⟨g11, e⟩ := gd_o e
  refine r_saI E.p 26 rfl (by decide) (by decide) ((rr.mine rfl).i 24 (by decide) (by decide)) g11 rfl dX6_readInstance_24 ?_
  refine r_iconst dX6_readInstance_25 ?_
  have eT := (r_ifo e).1
  have eF := (r_ifo e).2
  refine r_icmp_ne (((rr10.mine rfl).a 26 (by decide) rfl).1 _) (by decide) 35 dX6_readInstance_26 (by decide) (fun c12 => ?_) (fun c12 => ?_)
  · have e := eT c12
    refine r_aload_n dX6_readInstance_35 rfl 1 rfl ?_
    refine r_sR E.p 27 fG_X6_65 (by decide) dX6_readInstance_36 ?_
    refine r_iload_n dX6_readInstance_39 rfl 0 rfl ?_
    refine r_aload_n dX6_readInstance_40 rfl 1 rfl ?_
    refine r_iload_n dX6_readInstance_41 rfl 2 rfl ?_
    refine r_iconst dX6_readInstance_42 ?_
    refine r_iadd dX6_readInstance_43 ?_
    obtain ⟨p13, q14, e⟩ := bd_o e
    have k15 := kX6_figure (G := G) (b := b) (ad := ad) (h := h) (wr_r _) q14
    have z16 := (k15 rr10).1.2.2.2
    refine r_callV (j := some 0) 1 [ti (wr (a1 + 1))] (rec_sg (j := 0) (r := (RX6, TX6, 63)) rfl (by rw [E.p]; rfl)) rfl k15 (injO_1 E.p) (subO_1 E.p) getO_1 setO_1 (lw_V q1626 q1628 qs50 q123 q1629) (by decide +kernel) rfl (Nat.le_of_ble_eq_true rfl) (Nat.le_of_ble_eq_true rfl) rfl (Nat.le_of_ble_eq_true rfl) dX6_readInstance_44 rfl ?_
    obtain ⟨g17, e⟩ := gd_o e
    refine r_saP E.p 27 rfl (by decide) (by decide) ((rr.mine rfl).i 24 (by decide) (by decide)) g17 z16 rfl dX6_readInstance_47 ?_
    refine r_rrs E.p (fun rr18 => ?_)
    refine r_aload_n dX6_readInstance_48 rfl 1 rfl ?_
    refine r_sR E.p 27 fG_X6_65 (by decide) dX6_readInstance_49 ?_
    refine r_iload_n dX6_readInstance_52 rfl 0 rfl ?_
    obtain ⟨g19, e⟩ := gd_o e
    refine r_saI E.p 27 rfl (by decide) (by decide) ((rr.mine rfl).i 24 (by decide) (by decide)) g19 rfl dX6_readInstance_53 ?_
    refine r_iconst dX6_readInstance_54 ?_
    refine r_aload_n dX6_readInstance_55 rfl 1 rfl ?_
    refine r_sI E.p 23 fG_X6_162 (by decide) dX6_readInstance_56 ?_
    refine r_iconst dX6_readInstance_59 ?_
    refine r_isub dX6_readInstance_60 ?_
    obtain ⟨p20, q21, e⟩ := bd_o e
    have k22 := kX6_within (G := G) (h := h) (((rr18.mine rfl).a 27 (by decide) rfl).1 _) (by decide) (wr_r _) q21
    have z23 := (k22 rr18.none).1.2.2.2
    refine r_callS (j := none) 3 [ti (gA (sA (sA s 26 (gI s 24) p5) 27 (gI s 24) p13) 27 (gI s 24)), ti 0, ti (wr ((gI (sA (sA s 26 (gI s 24) p5) 27 (gI s 24) p13) 23) - 1))] k22 (injO_1 E.p) subO_0 getO_0 setO_0 (lw_S q1599 q1600 q123 q1601) (by decide +kernel) rfl (Nat.le_of_ble_eq_true rfl) (Nat.le_of_ble_eq_true rfl) rfl (Nat.le_of_ble_eq_true rfl) dX6_readInstance_61 rfl ?_
    have eT := (r_ifo e).1
    have eF := (r_ifo e).2
    refine r_if_ne (rI_z z23) 75 dX6_readInstance_64 (by decide) (fun c24 => ?_) (fun c24 => ?_)
    · have e := eT c24
      refine r_aload_n dX6_readInstance_75 rfl 1 rfl ?_
      refine r_iload_n dX6_readInstance_76 rfl 2 rfl ?_
      refine r_iconst dX6_readInstance_77 ?_
      refine r_iadd dX6_readInstance_78 ?_
      refine r_iload_n dX6_readInstance_79 rfl 0 rfl ?_
      obtain ⟨p25, q26, e⟩ := bd_o e
      have k27 := kX6_readHead (G := G) (b := b) (ad := ad) (h := h) (wr_r _) ((rr.mine rfl).i 24 (by decide) (by decide)) q26
      have z28 := (k27 rr18).1.2.2.2
      refine r_callV (j := some 0) 2 [ti (wr (a1 + 2)), ti (gI s 24)] (rec_sg (j := 0) (r := (RX6, TX6, 63)) rfl (by rw [E.p]; rfl)) rfl k27 (injO_1 E.p) (subO_1 E.p) getO_1 setO_1 (lw_V q1641 q1643 qs53 q123 q1644) (by decide +kernel) rfl (Nat.le_of_ble_eq_true rfl) (Nat.le_of_ble_eq_true rfl) rfl (Nat.le_of_ble_eq_true rfl) dX6_readInstance_80 rfl ?_
      refine r_rrs E.p (fun rr29 => ?_)
      refine r_istore_n (lv' := [(3, ti p25.1), (2, ti (gI s 24)), (0, tr (some b)), (1, ti a1)]) dX6_readInstance_83 rfl (E.lt (by decide)) rfl ?_
      refine r_aload_n dX6_readInstance_84 rfl 2 rfl ?_
      refine r_sI E.p 22 fG_X6_158 (by decide) dX6_readInstance_85 ?_
      have eT := (r_ifo e).1
      have eF := (r_ifo e).2
      refine r_if_ne ((rr29.mine rfl).i 22 (by decide) (by decide)) 98 dX6_readInstance_88 (by decide) (fun c30 => ?_) (fun c30 => ?_)
      · have e := eT c30
        refine r_sub [2, 0] rfl ?_
        exact wX6_readInstance_b98 E p25.2 p25.1 z28 e
      · have e := eF c30
        refine r_aload_n dX6_readInstance_91 rfl 2 rfl ?_
        refine r_iload_n dX6_readInstance_92 rfl 0 rfl ?_
        refine r_iload_n dX6_readInstance_93 rfl 1 rfl ?_
        obtain ⟨p31, q32, e⟩ := bd_o e
        have k33 := kX6_readConditions (G := G) (b := b) (ad := ad) (h := h) z28 ((rr.mine rfl).i 24 (by decide) (by decide)) q32
        have z34 := (k33 rr29).1.2.2.2
        refine r_callV (j := some 0) 2 [ti p25.1, ti (gI s 24)] (rec_sg (j := 0) (r := (RX6, TX6, 63)) rfl (by rw [E.p]; rfl)) rfl k33 (injO_1 E.p) (subO_1 E.p) getO_1 setO_1 (lw_V q1648 q1650 qs54 q123 q1651) (by decide +kernel) rfl (Nat.le_of_ble_eq_true rfl) (Nat.le_of_ble_eq_true rfl) rfl (Nat.le_of_ble_eq_true rfl) dX6_readInstance_94 rfl ?_
        refine r_rrs E.p (fun rr35 => ?_)
        refine r_istore_n (lv' := [(3, ti p31.1), (2, ti (gI s 24)), (0, tr (some b)), (1, ti a1)]) dX6_readInstance_97 rfl (E.lt (by decide)) rfl ?_
        refine r_sub [2, 0] rfl ?_
        exact wX6_readInstance_b98 E p31.2 p31.1 z34 e
    · have e := eF c24
      refine r_aload_n dX6_readInstance_67 rfl 1 rfl ?_
      refine r_iload_n dX6_readInstance_68 rfl 2 rfl ?_
      refine r_iconst dX6_readInstance_69 ?_
      refine r_iadd dX6_readInstance_70 ?_
      obtain ⟨p36, q37, e⟩ := bd_o e
      have k38 := kX6_broken (G := G) (b := b) (ad := ad) (h := h) (wr_r _) q37
      have z39 := (k38 rr18).1.2.2.2
      refine r_callV (j := some 0) 1 [ti (wr (a1 + 1))] (rec_sg (j := 0) (r := (RX6, TX6, 63)) rfl (by rw [E.p]; rfl)) rfl k38 (injO_1 E.p) (subO_1 E.p) getO_1 setO_1 (lw_V q1630 q1632 qs51 q123 q1633) (by decide +kernel) rfl (Nat.le_of_ble_eq_true rfl) (Nat.le_of_ble_eq_true rfl) rfl (Nat.le_of_ble_eq_true rfl) dX6_readInstance_71 rfl ?_
      refine r_rrs E.p (fun rr40 => ?_)
      cases e
      exact r_iret E.σ E.st E.rt E.r z39 dX6_readInstance_74
  · have e := eF c12
    refine r_aload_n dX6_readInstance_29 rfl 1 rfl ?_
    refine r_iload_n dX6_readInstance_30 rfl 2 rfl ?_
    obtain ⟨p41, q42, e⟩ := bd_o e
    have k43 := kX6_broken (G := G) (b := b) (ad := ad) (h := h) ha1 q42
    have z44 := (k43 rr10).1.2.2.2
    refine r_callV (j := some 0) 1 [ti a1] (rec_sg (j := 0) (r := (RX6, TX6, 63)) rfl (by rw [E.p]; rfl)) rfl k43 (injO_1 E.p) (subO_1 E.p) getO_1 setO_1 (lw_V q1630 q1632 qs51 q123 q1633) (by decide +kernel) rfl (Nat.le_of_ble_eq_true rfl) (Nat.le_of_ble_eq_true rfl) rfl (Nat.le_of_ble_eq_true rfl) dX6_readInstance_31 rfl ?_
    refine r_rrs E.p (fun rr45 => ?_)
    cases e
    exact r_iret E.σ E.st E.rt E.r z44 dX6_readInstance_34
theorem fP_X6_198 : FldP RX6 198 [(6, 21)] .boolean false := List.forall_mem_cons.mpr ⟨⟨RX6, TX6, 63, "DictProofModel", tyX6, rfl, in_X6, by decide, q1426, Or.inl rfl, tyX6_ok, nmX6, rfl, Or.inl rfl, by decide⟩, fun _ h => absurd h List.not_mem_nil⟩
def fX6_read_b42 (s : Sg) (a1 : Int) : Option (Int × Sg) := some (a1, s)
theorem wX6_read_b42 {N : Nx} {b : Nat} {ad : Nat → Nat} {s' : Sg} {h : hS} {r : Int} (E : EndX N [(6, b, ad)] 2 (some .int) (some (ti r)) [s'] h)  (s : Sg) (a1 : Int) (ha1 : rI a1) (e : fX6_read_b42 s a1 = some (r, s')) : AtPc cX6_read RX6 4 92 N [s] h 42 [(1, ti a1)] [] := by
  unfold fX6_read_b42 at e
  refine r_rrs E.p (fun rr => ?_)
  refine r_iload_n dX6_read_42 rfl 0 rfl ?_
  cases e
  exact r_iret E.σ E.st E.rt E.r ha1 dX6_read_43
def fX6_read_b110 (s : Sg) (a1 : Int) (k1 : Int) : Option (Int × Sg) := gd (k1 = 0 ∨ k1 = 1) (some (a1, sI s 21 k1))
theorem wX6_read_b110 {N : Nx} {b : Nat} {ad : Nat → Nat} {s' : Sg} {h : hS} {r : Int} (E : EndX N [(6, b, ad)] 2 (some .int) (some (ti r)) [s'] h)  (s : Sg) (a1 : Int) (k1 : Int) (ha1 : rI a1) (hk1 : rI k1) (e : fX6_read_b110 s a1 k1 = some (r, s')) : AtPc cX6_read RX6 4 92 N [s] h 110 [(1, ti a1)] [ti k1, tr (some b)] := by
  unfold fX6_read_b110 at e
  refine r_rrs E.p (fun rr => ?_)
  obtain ⟨g1, e⟩ := gd_o e
  refine r_sPZ E.p 21 fP_X6_198 rfl g1 dX6_read_110 ?_
  refine r_rrs E.p (fun rr2 => ?_)
  refine r_iload_n dX6_read_113 rfl 0 rfl ?_
  cases e
  exact r_iret E.σ E.st E.rt E.r ha1 dX6_read_114
def fX6_read_b109 (s : Sg) (a1 : Int) : Option (Int × Sg) := fX6_read_b110 s a1 0
theorem wX6_read_b109 {N : Nx} {b : Nat} {ad : Nat → Nat} {s' : Sg} {h : hS} {r : Int} (E : EndX N [(6, b, ad)] 2 (some .int) (some (ti r)) [s'] h)  (s : Sg) (a1 : Int) (ha1 : rI a1) (e : fX6_read_b109 s a1 = some (r, s')) : AtPc cX6_read RX6 4 92 N [s] h 109 [(1, ti a1)] [tr (some b)] := by
  unfold fX6_read_b109 at e
  refine r_rrs E.p (fun rr => ?_)
  refine r_iconst dX6_read_109 ?_
  exact wX6_read_b110 E s a1 0 ha1 (by decide) e
def fX6_read_b89 (s : Sg) (a1 : Int) : Option (Int × Sg) := if ¬ (gI s 22) = 0 then fX6_read_b109 s a1 else if ¬ a1 = (gI s 19) then fX6_read_b109 s a1 else fX6_read_b110 s a1 1
theorem wX6_read_b89 {N : Nx} {b : Nat} {ad : Nat → Nat} {s' : Sg} {h : hS} {r : Int} (E : EndX N [(6, b, ad)] 2 (some .int) (some (ti r)) [s'] h)  (s : Sg) (a1 : Int) (ha1 : rI a1) (e : fX6_read_b89 s a1 = some (r, s')) : AtPc cX6_read RX6 4 92 N [s] h 89 [(0, tr (some b)), (1, ti a1)] [] := by
  unfold fX6_read_b89 at e
  refine r_rrs E.p (fun rr => ?_)
  refine r_aload_n dX6_read_89 rfl 0 rfl ?_
  refine r_aload_n dX6_read_90 rfl 0 rfl ?_
  refine r_sI E.p 22 fG_X6_158 (by decide) dX6_read_91 ?_
  have eT := (r_ifo e).1
  have eF := (r_ifo e).2
  refine r_if_ne ((rr.mine rfl).i 22 (by decide) (by decide)) 109 dX6_read_94 (by decide) (fun c1 => ?_) (fun c1 => ?_)
  · have e := eT c1
    refine r_sub [1] rfl ?_
    exact wX6_read_b109 E s a1 ha1 e
  · have e := eF c1
    refine r_iload_n dX6_read_97 rfl 1 rfl ?_
    refine r_aload_n dX6_read_98 rfl 0 rfl ?_
    refine r_sI E.p 19 fG_X6_150 (by decide) dX6_read_99 ?_
    have eT := (r_ifo e).1
    have eF := (r_ifo e).2
    refine r_icmp_ne ha1 ((rr.mine rfl).i 19 (by decide) (by decide)) 109 dX6_read_102 (by decide) (fun c2 => ?_) (fun c2 => ?_)
    · have e := eT c2
      refine r_sub [1] rfl ?_
      exact wX6_read_b109 E s a1 ha1 e
    · have e := eF c2
      refine r_iconst dX6_read_105 ?_
      refine r_goto 110 dX6_read_106 (by decide) ?_
      refine r_sub [1] rfl ?_
      exact wX6_read_b110 E s a1 1 ha1 (by decide) e
def fX6_read_b52 (K52 : Sg → Int → Option (Int × Sg)) (s : Sg) (a1 : Int) : Option (Int × Sg) := if ¬ (gI s 22) = 0 then fX6_read_b89 s a1 else if 6 ≤ (gI s 24) then fX6_read_b89 s a1 else bd (fX6_at s a1) fun p3 => if ¬ p3 = 44 then fX6_read_b89 s a1 else bd (fX6_readInstance s (wr (a1 + 1))) fun p8 => K52 p8.2 p8.1
theorem wX6_read_b52 {N : Nx} {b : Nat} {ad : Nat → Nat} {s' : Sg} {h : hS} {r : Int} (E : EndX N [(6, b, ad)] 2 (some .int) (some (ti r)) [s'] h) (K52 : Sg → Int → Option (Int × Sg)) (hK52 : ∀ (s : Sg) (a1 : Int) (ha1 : rI a1), K52 s a1 = some (r, s') → AtPc cX6_read RX6 4 92 N [s] h 52 [(0, tr (some b)), (1, ti a1)] []) (s : Sg) (a1 : Int) (ha1 : rI a1) (e : fX6_read_b52 K52 s a1 = some (r, s')) : AtPc cX6_read RX6 4 92 N [s] h 52 [(0, tr (some b)), (1, ti a1)] [] := by
  unfold fX6_read_b52 at e
  refine r_rrs E.p (fun rr => ?_)
  refine r_aload_n dX6_read_52 rfl 0 rfl ?_
  refine r_sI E.p 22 fG_X6_158 (by decide) dX6_read_53 ?_
  have eT := (r_ifo e).1
  have eF := (r_ifo e).2
  refine r_if_ne ((rr.mine rfl).i 22 (by decide) (by decide)) 89 dX6_read_56 (by decide) (fun c1 => ?_) (fun c1 => ?_)
  · have e := eT c1
    exact wX6_read_b89 E s a1 ha1 e
  · have e := eF c1
    refine r_aload_n dX6_read_59 rfl 0 rfl ?_
    refine r_sI E.p 24 fG_X6_185 (by decide) dX6_read_60 ?_
    refine r_bipush dX6_read_63 (by decide) ?_
    have eT := (r_ifo e).1
    have eF := (r_ifo e).2
    refine r_icmp_ge ((rr.mine rfl).i 24 (by decide) (by decide)) (by decide) 89 dX6_read_65 (by decide) (fun c2 => ?_) (fun c2 => ?_)
    · have e := eT c2
      exact wX6_read_b89 E s a1 ha1 e
    · have e := eF c2
      refine r_aload_n dX6_read_68 rfl 0 rfl ?_
      refine r_iload_n dX6_read_69 rfl 1 rfl ?_
      obtain ⟨p3, q4, e⟩ := bd_o e
      have k5 := kX6_at (G := nG N) (b := b) (ad := ad) (h := h) ha1 q4
      have z6 := (k5 rr).1.2.2.2
      refine r_callV (j := some 0) 1 [ti a1] (rec_sg (j := 0) (r := (RX6, TX6, 63)) rfl (by rw [E.p]; rfl)) rfl k5 (injO_1 E.p) (subO_1 E.p) getO_1 setO_1 (lw_V q1622 q1624 qs49 q123 q1625) (by decide +kernel) rfl (Nat.le_of_ble_eq_true rfl) (Nat.le_of_ble_eq_true rfl) rfl (Nat.le_of_ble_eq_true rfl) dX6_read_70 rfl ?_
      refine r_bipush dX6_read_73 (by decide) ?_
      have eT := (r_ifo e).1
      have eF := (r_ifo e).2
      refine r_icmp_ne z6 (by decide) 89 dX6_read_75 (by decide) (fun c7 => ?_) (fun c7 => ?_)
      · have e := eT c7
        exact wX6_read_b89 E s a1 ha1 e
      · have e := eF c7
        refine r_aload_n dX6_read_78 rfl 0 rfl ?_
        refine r_iload_n dX6_read_79 rfl 1 rfl ?_
        refine r_iconst dX6_read_80 ?_
        refine r_iadd dX6_read_81 ?_
        obtain ⟨p8, q9, e⟩ := bd_o e
        have k10 := kX6_readInstance (G := nG N) (b := b) (ad := ad) (h := h) (wr_r _) q9
        have z11 := (k10 rr).1.2.2.2
        refine r_callV (j := some 0) 1 [ti (wr (a1 + 1))] (rec_sg (j := 0) (r := (RX6, TX6, 63)) rfl (by rw [E.p]; rfl)) rfl k10 (injO_1 E.p) (subO_1 E.p) getO_1 setO_1 (lw_V q1634 q1636 qs52 q123 q1637) (by decide +kernel) rfl (Nat.le_of_ble_eq_true rfl) (Nat.le_of_ble_eq_true rfl) rfl (Nat.le_of_ble_eq_true rfl) dX6_read_82 rfl ?_
        refine r_rrs E.p (fun rr12 => ?_)
        refine r_istore_n (lv' := [(1, ti p8.1), (0, tr (some b))]) dX6_read_85 rfl (E.lt (by decide)) rfl ?_
        refine r_goto 52 dX6_read_86 (by decide) ?_
        refine r_sub [1, 0] rfl ?_
        exact hK52 p8.2 p8.1 z11 e
def fX6_read_L52  : Nat → Sg → Int → Option (Int × Sg)
  | 0, _, _ => none
  | n9 + 1, s, a1 => fX6_read_b52 (fX6_read_L52 n9) s a1
theorem wX6_read_L52 {N : Nx} {b : Nat} {ad : Nat → Nat} {s' : Sg} {h : hS} {r : Int} (E : EndX N [(6, b, ad)] 2 (some .int) (some (ti r)) [s'] h)  : ∀ (n9 : Nat), ∀ (s : Sg) (a1 : Int) (ha1 : rI a1), fX6_read_L52 n9 s a1 = some (r, s') → AtPc cX6_read RX6 4 92 N [s] h 52 [(0, tr (some b)), (1, ti a1)] [] := by
  intro n9
  induction n9 with
  | zero => intro s a1 ha1 e; cases e
  | succ n9 ih => intro s a1 ha1 e; exact wX6_read_b52 E _ ih s a1 ha1 e
def fX6_read  (s : Sg) : Option (Int × Sg) := bd (fX6_readClasses (sI (sI (sI (sI s 21 0) 22 0) 23 0) 24 0)) fun p5 => if ¬ (gI p5.2 22) = 0 then fX6_read_b42 p5.2 p5.1 else bd (fX6_at p5.2 p5.1) fun p11 => if p11 = 59 then bd (fX6_readInstance p5.2 (wr (p5.1 + 1))) fun p16 => fX6_read_L52 FU p16.2 p16.1 else fX6_read_b42 p5.2 p5.1
theorem kX6_read {G : Gx}  {b : Nat} {ad : Nat → Nat} {s' : Sg} {h : hS} {r : Int} {s : Sg}    (e : fX6_read s = some (r, s')) : CtX G yX6_read cX6_read 2 (some .int) 4 92 [(6, b, ad)] [s] h [tr (some b)] (some (ti r)) [s'] h := by
  refine CtX.of (by decide) (Nat.le_of_ble_eq_true rfl) [(0, tr (some b))] rfl ?_
  have E : EndX (G, 2, [(6, b, ad)], h, [s'], h, (some .int), (some (ti r)), yX6_read.name) [(6, b, ad)] 2 (some .int) (some (ti r)) [s'] h := ⟨rfl, rfl, rfl, rfl, rfl, rfl⟩
  unfold fX6_read at e
  refine r_rrs E.p (fun rr => ?_)
  refine r_aload_n dX6_read_0 rfl 0 rfl ?_
  refine r_iconst dX6_read_1 ?_
  refine r_sPZ E.p 21 fP_X6_198 rfl (Or.inl rfl) dX6_read_2 ?_
  refine r_rrs E.p (fun rr1 => ?_)
  refine r_aload_n dX6_read_5 rfl 0 rfl ?_
  refine r_iconst dX6_read_6 ?_
  refine r_sPZ E.p 22 fP_X6_158 rfl (Or.inl rfl) dX6_read_7 ?_
  refine r_rrs E.p (fun rr2 => ?_)
  refine r_aload_n dX6_read_10 rfl 0 rfl ?_
  refine r_iconst dX6_read_11 ?_
  refine r_sPI E.p 23 fP_X6_162 rfl (by decide) dX6_read_12 ?_
  refine r_rrs E.p (fun rr3 => ?_)
  refine r_aload_n dX6_read_15 rfl 0 rfl ?_
  refine r_iconst dX6_read_16 ?_
  refine r_sPI E.p 24 fP_X6_185 rfl (by decide) dX6_read_17 ?_
  refine r_rrs E.p (fun rr4 => ?_)
  refine r_aload_n dX6_read_20 rfl 0 rfl ?_
  obtain ⟨p5, q6, e⟩ := bd_o e
  have k7 := kX6_readClasses (G := G) (b := b) (ad := ad) (h := h)  q6
  have z8 := (k7 rr4).1.2.2.2
  refine r_callV (j := some 0) 0 [] (rec_sg (j := 0) (r := (RX6, TX6, 63)) rfl (by rw [E.p]; rfl)) rfl k7 (injO_1 E.p) (subO_1 E.p) getO_1 setO_1 (lw_V q1614 q1616 qs47 q123 q1617) (by decide +kernel) rfl (Nat.le_of_ble_eq_true rfl) (Nat.le_of_ble_eq_true rfl) rfl (Nat.le_of_ble_eq_true rfl) dX6_read_21 rfl ?_
  refine r_rrs E.p (fun rr9 => ?_)
  refine r_istore_n (lv' := [(1, ti p5.1), (0, tr (some b))]) dX6_read_24 rfl (E.lt (by decide)) rfl ?_
  refine r_aload_n dX6_read_25 rfl 1 rfl ?_
  refine r_sI E.p 22 fG_X6_158 (by decide) dX6_read_26 ?_
  have eT := (r_ifo e).1
  have eF := (r_ifo e).2
  refine r_if_ne ((rr9.mine rfl).i 22 (by decide) (by decide)) 42 dX6_read_29 (by decide) (fun c10 => ?_) (fun c10 => ?_)
  · have e := eT c10
    refine r_sub [0] rfl ?_
    exact wX6_read_b42 E p5.2 p5.1 z8 e
  · have e := eF c10
    refine r_aload_n dX6_read_32 rfl 1 rfl ?_
    refine r_iload_n dX6_read_33 rfl 0 rfl ?_
    obtain ⟨p11, q12, e⟩ := bd_o e
    have k13 := kX6_at (G := G) (b := b) (ad := ad) (h := h) z8 q12
    have z14 := (k13 rr9).1.2.2.2
    refine r_callV (j := some 0) 1 [ti p5.1] (rec_sg (j := 0) (r := (RX6, TX6, 63)) rfl (by rw [E.p]; rfl)) rfl k13 (injO_1 E.p) (subO_1 E.p) getO_1 setO_1 (lw_V q1622 q1624 qs49 q123 q1625) (by decide +kernel) rfl (Nat.le_of_ble_eq_true rfl) (Nat.le_of_ble_eq_true rfl) rfl (Nat.le_of_ble_eq_true rfl) dX6_read_34 rfl ?_
    refine r_bipush dX6_read_37 (by decide) ?_
    have eT := (r_ifo e).1
    have eF := (r_ifo e).2
    refine r_icmp_eq z14 (by decide) 44 dX6_read_39 (by decide) (fun c15 => ?_) (fun c15 => ?_)
    · have e := eT c15
      refine r_aload_n dX6_read_44 rfl 1 rfl ?_
      refine r_iload_n dX6_read_45 rfl 0 rfl ?_
      refine r_iconst dX6_read_46 ?_
      refine r_iadd dX6_read_47 ?_
      obtain ⟨p16, q17, e⟩ := bd_o e
      have k18 := kX6_readInstance (G := G) (b := b) (ad := ad) (h := h) (wr_r _) q17
      have z19 := (k18 rr9).1.2.2.2
      refine r_callV (j := some 0) 1 [ti (wr (p5.1 + 1))] (rec_sg (j := 0) (r := (RX6, TX6, 63)) rfl (by rw [E.p]; rfl)) rfl k18 (injO_1 E.p) (subO_1 E.p) getO_1 setO_1 (lw_V q1634 q1636 qs52 q123 q1637) (by decide +kernel) rfl (Nat.le_of_ble_eq_true rfl) (Nat.le_of_ble_eq_true rfl) rfl (Nat.le_of_ble_eq_true rfl) dX6_read_48 rfl ?_
      refine r_rrs E.p (fun rr20 => ?_)
      refine r_istore_n (lv' := [(1, ti p16.1), (0, tr (some b))]) dX6_read_51 rfl (E.lt (by decide)) rfl ?_
      refine r_sub [1, 0] rfl ?_
      exact wX6_read_L52 E FU p16.2 p16.1 z19 e
    · have e := eF c15
      refine r_sub [0] rfl ?_
      exact wX6_read_b42 E p5.2 p5.1 z8 e
def fX6_fault  (s : Sg) : Option (Int × Sg) := bd (fX6_read s) fun p1 => some (p1.1, p1.2)
theorem kX6_fault {G : Gx}  {b : Nat} {ad : Nat → Nat} {s' : Sg} {h : hS} {r : Int} {s : Sg}    (e : fX6_fault s = some (r, s')) : CtX G yX6_fault cX6_fault 1 (some .int) 5 113 [(6, b, ad)] [s] h [tr (some b)] (some (ti r)) [s'] h := by
  refine CtX.of (by decide) (Nat.le_of_ble_eq_true rfl) [(0, tr (some b))] rfl ?_
  have E : EndX (G, 1, [(6, b, ad)], h, [s'], h, (some .int), (some (ti r)), yX6_fault.name) [(6, b, ad)] 1 (some .int) (some (ti r)) [s'] h := ⟨rfl, rfl, rfl, rfl, rfl, rfl⟩
  unfold fX6_fault at e
  refine r_rrs E.p (fun rr => ?_)
  refine r_aload_n dX6_fault_0 rfl 0 rfl ?_
  obtain ⟨p1, q2, e⟩ := bd_o e
  have k3 := kX6_read (G := G) (b := b) (ad := ad) (h := h)  q2
  have z4 := (k3 rr).1.2.2.2
  refine r_callV (j := some 0) 0 [] (rec_sg (j := 0) (r := (RX6, TX6, 63)) rfl (by rw [E.p]; rfl)) rfl k3 (injO_1 E.p) (subO_1 E.p) getO_1 setO_1 (lw_V q1610 q1612 qs46 q123 q1613) (by decide +kernel) rfl (Nat.le_of_ble_eq_true rfl) (Nat.le_of_ble_eq_true rfl) rfl (Nat.le_of_ble_eq_true rfl) dX6_fault_1 rfl ?_
  refine r_rrs E.p (fun rr5 => ?_)
  cases e
  exact r_iret E.σ E.st E.rt E.r z4 dX6_fault_4
def fX6_isIn_b14 (k0 : Int) : Option (Int) := gd (k0 = 0 ∨ k0 = 1) (some k0)
theorem wX6_isIn_b14 {N : Nx} {h : hS} {r : Int} (E : EndX N [] 2 (some .boolean) (some (ti r)) [] h)  (k0 : Int) (hk0 : rI k0) (e : fX6_isIn_b14 k0 = some (r)) : AtPc cX6_isIn RX6 0 0 N [] h 14 [] [ti k0] := by
  unfold fX6_isIn_b14 at e
  refine r_rrs E.p (fun rr => ?_)
  obtain ⟨g1, e⟩ := gd_o e
  cases e
  exact r_zret E.σ E.st E.rt E.r g1 dX6_isIn_14
def fX6_isIn  (a0 : Int) (a1 : Int) : Option (Int) := if ¬ (iand (ishr a0 a1) 1) = 1 then fX6_isIn_b14 0 else fX6_isIn_b14 1
theorem kX6_isIn {G : Gx}  {h : hS} {r : Int} {a0 : Int} {a1 : Int}  (ha0 : rI a0) (ha1 : rI a1) (e : fX6_isIn a0 a1 = some (r)) : CtX G yX6_isIn cX6_isIn 2 (some .boolean) 0 0 [] [] h [ti a0, ti a1] (some (ti r)) [] h := by
  refine CtX.of (by decide) (Nat.le_of_ble_eq_true rfl) [(0, ti a0), (1, ti a1)] rfl ?_
  have E : EndX (G, 2, [], h, [], h, (some .boolean), (some (ti r)), yX6_isIn.name) [] 2 (some .boolean) (some (ti r)) [] h := ⟨rfl, rfl, rfl, rfl, rfl, rfl⟩
  unfold fX6_isIn at e
  refine r_rrs E.p (fun rr => ?_)
  refine r_iload_n dX6_isIn_0 rfl 0 rfl ?_
  refine r_iload_n dX6_isIn_1 rfl 1 rfl ?_
  refine r_ishr dX6_isIn_2 ?_
  refine r_iconst dX6_isIn_3 ?_
  refine r_iand dX6_isIn_4 ?_
  refine r_iconst dX6_isIn_5 ?_
  have eT := (r_ifo e).1
  have eF := (r_ifo e).2
  refine r_icmp_ne (iand_r _ _) (by decide) 13 dX6_isIn_6 (by decide) (fun c1 => ?_) (fun c1 => ?_)
  · have e := eT c1
    refine r_iconst dX6_isIn_13 ?_
    refine r_sub [] rfl ?_
    exact wX6_isIn_b14 E 0 (by decide) e
  · have e := eF c1
    refine r_iconst dX6_isIn_9 ?_
    refine r_goto 14 dX6_isIn_10 (by decide) ?_
    refine r_sub [] rfl ?_
    exact wX6_isIn_b14 E 1 (by decide) e
theorem fG_X6_16 : FldG RX6 16 [(6, 5)] := List.forall_mem_cons.mpr ⟨⟨RX6, TX6, 63, "DictProofModel", rfl, in_X6, by decide, q1410, Or.inl rfl⟩, fun _ h => absurd h List.not_mem_nil⟩
theorem fG_X6_19 : FldG RX6 19 [(6, 6)] := List.forall_mem_cons.mpr ⟨⟨RX6, TX6, 63, "DictProofModel", rfl, in_X6, by decide, q1411, Or.inl rfl⟩, fun _ h => absurd h List.not_mem_nil⟩
theorem fG_X6_25 : FldG RX6 25 [(6, 8)] := List.forall_mem_cons.mpr ⟨⟨RX6, TX6, 63, "DictProofModel", rfl, in_X6, by decide, q1413, Or.inl rfl⟩, fun _ h => absurd h List.not_mem_nil⟩
theorem fG_X6_28 : FldG RX6 28 [(6, 9)] := List.forall_mem_cons.mpr ⟨⟨RX6, TX6, 63, "DictProofModel", rfl, in_X6, by decide, q1414, Or.inl rfl⟩, fun _ h => absurd h List.not_mem_nil⟩
theorem fG_X6_22 : FldG RX6 22 [(6, 7)] := List.forall_mem_cons.mpr ⟨⟨RX6, TX6, 63, "DictProofModel", rfl, in_X6, by decide, q1412, Or.inl rfl⟩, fun _ h => absurd h List.not_mem_nil⟩
theorem fG_X6_31 : FldG RX6 31 [(6, 10)] := List.forall_mem_cons.mpr ⟨⟨RX6, TX6, 63, "DictProofModel", rfl, in_X6, by decide, q1415, Or.inl rfl⟩, fun _ h => absurd h List.not_mem_nil⟩
theorem fG_X6_34 : FldG RX6 34 [(6, 11)] := List.forall_mem_cons.mpr ⟨⟨RX6, TX6, 63, "DictProofModel", rfl, in_X6, by decide, q1416, Or.inl rfl⟩, fun _ h => absurd h List.not_mem_nil⟩
def fX6_takeInstance_b90 (K90 : Sg → Int → Int → Option (Sg)) (s : Sg) (a1 : Int) (a2 : Int) : Option (Sg) := gd (inb a1 6) (if (gA s 9 a1) ≤ a2 then some s else gd (inb (wr ((wr (2 * a1)) + a2)) 12) (bd (fX6_figure s (gA s 31 (wr ((wr (2 * a1)) + a2)))) fun p4 => gd (inb (wr ((wr (2 * a1)) + a2)) 12) (bd (fX6_at (sA s 10 (wr ((wr (2 * a1)) + a2)) p4) (wr ((gA s 31 (wr ((wr (2 * a1)) + a2))) + 1))) fun p10 => gd (inb (wr ((wr (2 * a1)) + a2)) 12) (K90 (sA (sA s 10 (wr ((wr (2 * a1)) + a2)) p4) 11 (wr ((wr (2 * a1)) + a2)) (wr (p10 - 120))) a1 (wr (a2 + 1))))))
theorem wX6_takeInstance_b90 {N : Nx} {b : Nat} {ad : Nat → Nat} {s' : Sg} {h : hS} (E : EndX N [(6, b, ad)] 4 none none [s'] h) (K90 : Sg → Int → Int → Option (Sg)) (hK90 : ∀ (s : Sg) (a1 : Int) (a2 : Int) (ha1 : rI a1) (ha2 : rI a2), K90 s a1 a2 = some (s') → AtPc cX6_takeInstance RX6 2 42 N [s] h 90 [(0, tr (some b)), (1, ti a1), (2, ti a2)] []) (s : Sg) (a1 : Int) (a2 : Int) (ha1 : rI a1) (ha2 : rI a2) (e : fX6_takeInstance_b90 K90 s a1 a2 = some (s')) : AtPc cX6_takeInstance RX6 2 42 N [s] h 90 [(0, tr (some b)), (1, ti a1), (2, ti a2)] [] := by
  unfold fX6_takeInstance_b90 at e
  refine r_rrs E.p (fun rr => ?_)
  refine r_iload_n dX6_takeInstance_90 rfl 2 rfl ?_
  refine r_aload_n dX6_takeInstance_91 rfl 0 rfl ?_
  refine r_sR E.p 9 fG_X6_28 (by decide) dX6_takeInstance_92 ?_
  refine r_iload_n dX6_takeInstance_95 rfl 1 rfl ?_
  obtain ⟨g1, e⟩ := gd_o e
  refine r_saI E.p 9 rfl (by decide) (by decide) ha1 g1 rfl dX6_takeInstance_96 ?_
  have eT := (r_ifo e).1
  have eF := (r_ifo e).2
  refine r_icmp_ge ha2 (((rr.mine rfl).a 9 (by decide) rfl).1 _) 152 dX6_takeInstance_97 (by decide) (fun c2 => ?_) (fun c2 => ?_)
  · have e := eT c2
    cases e
    exact r_vret E.σ E.st E.rt E.r dX6_takeInstance_152
  · have e := eF c2
    refine r_aload_n dX6_takeInstance_100 rfl 0 rfl ?_
    refine r_sR E.p 31 fG_X6_77 (by decide) dX6_takeInstance_101 ?_
    refine r_iconst dX6_takeInstance_104 ?_
    refine r_iload_n dX6_takeInstance_105 rfl 1 rfl ?_
    refine r_imul dX6_takeInstance_106 ?_
    refine r_iload_n dX6_takeInstance_107 rfl 2 rfl ?_
    refine r_iadd dX6_takeInstance_108 ?_
    obtain ⟨g3, e⟩ := gd_o e
    refine r_saI E.p 31 rfl (by decide) (by decide) (wr_r _) g3 rfl dX6_takeInstance_109 ?_
    refine r_istore_n (lv' := [(3, ti (gA s 31 (wr ((wr (2 * a1)) + a2)))), (0, tr (some b)), (1, ti a1), (2, ti a2)]) dX6_takeInstance_110 rfl (E.lt (by decide)) rfl ?_
    refine r_aload_n dX6_takeInstance_111 rfl 1 rfl ?_
    refine r_sR E.p 10 fG_X6_31 (by decide) dX6_takeInstance_112 ?_
    refine r_iconst dX6_takeInstance_115 ?_
    refine r_iload_n dX6_takeInstance_116 rfl 2 rfl ?_
    refine r_imul dX6_takeInstance_117 ?_
    refine r_iload_n dX6_takeInstance_118 rfl 3 rfl ?_
    refine r_iadd dX6_takeInstance_119 ?_
    refine r_aload_n dX6_takeInstance_120 rfl 1 rfl ?_
    refine r_iload_n dX6_takeInstance_121 rfl 0 rfl ?_
    obtain ⟨p4, q5, e⟩ := bd_o e
    have k6 := kX6_figure (G := nG N) (b := b) (ad := ad) (h := h) (((rr.mine rfl).a 31 (by decide) rfl).1 _) q5
    have z7 := (k6 rr).1.2.2.2
    refine r_callV (j := some 0) 1 [ti (gA s 31 (wr ((wr (2 * a1)) + a2)))] (rec_sg (j := 0) (r := (RX6, TX6, 63)) rfl (by rw [E.p]; rfl)) rfl k6 (injO_1 E.p) (subO_1 E.p) getO_1 setO_1 (lw_V q1626 q1628 qs50 q123 q1629) (by decide +kernel) rfl (Nat.le_of_ble_eq_true rfl) (Nat.le_of_ble_eq_true rfl) rfl (Nat.le_of_ble_eq_true rfl) dX6_takeInstance_122 rfl ?_
    obtain ⟨g8, e⟩ := gd_o e
    refine r_saP E.p 10 rfl (by decide) (by decide) (wr_r _) g8 z7 rfl dX6_takeInstance_125 ?_
    refine r_rrs E.p (fun rr9 => ?_)
    refine r_aload_n dX6_takeInstance_126 rfl 1 rfl ?_
    refine r_sR E.p 11 fG_X6_34 (by decide) dX6_takeInstance_127 ?_
    refine r_iconst dX6_takeInstance_130 ?_
    refine r_iload_n dX6_takeInstance_131 rfl 2 rfl ?_
    refine r_imul dX6_takeInstance_132 ?_
    refine r_iload_n dX6_takeInstance_133 rfl 3 rfl ?_
    refine r_iadd dX6_takeInstance_134 ?_
    refine r_aload_n dX6_takeInstance_135 rfl 1 rfl ?_
    refine r_iload_n dX6_takeInstance_136 rfl 0 rfl ?_
    refine r_iconst dX6_takeInstance_137 ?_
    refine r_iadd dX6_takeInstance_138 ?_
    obtain ⟨p10, q11, e⟩ := bd_o e
    have k12 := kX6_at (G := nG N) (b := b) (ad := ad) (h := h) (wr_r _) q11
    have z13 := (k12 rr9).1.2.2.2
    refine r_callV (j := some 0) 1 [ti (wr ((gA s 31 (wr ((wr (2 * a1)) + a2))) + 1))] (rec_sg (j := 0) (r := (RX6, TX6, 63)) rfl (by rw [E.p]; rfl)) rfl k12 (injO_1 E.p) (subO_1 E.p) getO_1 setO_1 (lw_V q1622 q1624 qs49 q123 q1625) (by decide +kernel) rfl (Nat.le_of_ble_eq_true rfl) (Nat.le_of_ble_eq_true rfl) rfl (Nat.le_of_ble_eq_true rfl) dX6_takeInstance_139 rfl ?_
    refine r_bipush dX6_takeInstance_142 (by decide) ?_
    refine r_isub dX6_takeInstance_144 ?_
    obtain ⟨g14, e⟩ := gd_o e
    refine r_saP E.p 11 rfl (by decide) (by decide) (wr_r _) g14 (wr_r _) rfl dX6_takeInstance_145 ?_
    refine r_rrs E.p (fun rr15 => ?_)
    refine r_iinc (lv' := [(2, ti (wr (a2 + 1))), (3, ti (gA s 31 (wr ((wr (2 * a1)) + a2)))), (0, tr (some b)), (1, ti a1)]) dX6_takeInstance_146 3 rfl (E.lt (by decide)) rfl ?_
    refine r_goto 90 dX6_takeInstance_149 (by decide) ?_
    refine r_sub [2, 3, 0] rfl ?_
    exact hK90 (sA (sA s 10 (wr ((wr (2 * a1)) + a2)) p4) 11 (wr ((wr (2 * a1)) + a2)) (wr (p10 - 120))) a1 (wr (a2 + 1)) ha1 (wr_r _) e
def fX6_takeInstance_L90  : Nat → Sg → Int → Int → Option (Sg)
  | 0, _, _, _ => none
  | n9 + 1, s, a1, a2 => fX6_takeInstance_b90 (fX6_takeInstance_L90 n9) s a1 a2
theorem wX6_takeInstance_L90 {N : Nx} {b : Nat} {ad : Nat → Nat} {s' : Sg} {h : hS} (E : EndX N [(6, b, ad)] 4 none none [s'] h)  : ∀ (n9 : Nat), ∀ (s : Sg) (a1 : Int) (a2 : Int) (ha1 : rI a1) (ha2 : rI a2), fX6_takeInstance_L90 n9 s a1 a2 = some (s') → AtPc cX6_takeInstance RX6 2 42 N [s] h 90 [(0, tr (some b)), (1, ti a1), (2, ti a2)] [] := by
  intro n9
  induction n9 with
  | zero => intro s a1 a2 ha1 ha2 e; cases e
  | succ n9 ih => intro s a1 a2 ha1 ha2 e; exact wX6_takeInstance_b90 E _ ih s a1 a2 ha1 ha2 e
def fX6_takeInstance_b38 (K38 : Sg → Int → Int → Option (Sg)) (s : Sg) (a1 : Int) (a2 : Int) : Option (Sg) := gd (inb a1 6) (if (gA s 8 a1) ≤ a2 then gd (inb a1 6) (gd (inb a1 6) (fX6_takeInstance_L90 FU (sA s 9 a1 (gA s 30 a1)) a1 0)) else gd (inb a1 6) (bd (fX6_at s (wr ((gA s 28 a1) + a2))) fun p7 => gd (inb (wr ((wr (5 * a1)) + a2)) 30) (K38 (sA s 7 (wr ((wr (5 * a1)) + a2)) p7) a1 (wr (a2 + 1)))))
theorem wX6_takeInstance_b38 {N : Nx} {b : Nat} {ad : Nat → Nat} {s' : Sg} {h : hS} (E : EndX N [(6, b, ad)] 4 none none [s'] h) (K38 : Sg → Int → Int → Option (Sg)) (hK38 : ∀ (s : Sg) (a1 : Int) (a2 : Int) (ha1 : rI a1) (ha2 : rI a2), K38 s a1 a2 = some (s') → AtPc cX6_takeInstance RX6 2 42 N [s] h 38 [(0, tr (some b)), (1, ti a1), (2, ti a2)] []) (s : Sg) (a1 : Int) (a2 : Int) (ha1 : rI a1) (ha2 : rI a2) (e : fX6_takeInstance_b38 K38 s a1 a2 = some (s')) : AtPc cX6_takeInstance RX6 2 42 N [s] h 38 [(0, tr (some b)), (1, ti a1), (2, ti a2)] [] := by
  unfold fX6_takeInstance_b38 at e
  refine r_rrs E.p (fun rr => ?_)
  refine r_iload_n dX6_takeInstance_38 rfl 2 rfl ?_
  refine r_aload_n dX6_takeInstance_39 rfl 0 rfl ?_
  refine r_sR E.p 8 fG_X6_25 (by decide) dX6_takeInstance_40 ?_
  refine r_iload_n dX6_takeInstance_43 rfl 1 rfl ?_
  obtain ⟨g1, e⟩ := gd_o e
  refine r_saI E.p 8 rfl (by decide) (by decide) ha1 g1 rfl dX6_takeInstance_44 ?_
  have eT := (r_ifo e).1
  have eF := (r_ifo e).2
  refine r_icmp_ge ha2 (((rr.mine rfl).a 8 (by decide) rfl).1 _) 76 dX6_takeInstance_45 (by decide) (fun c2 => ?_) (fun c2 => ?_)
  · have e := eT c2
    refine r_aload_n dX6_takeInstance_76 rfl 0 rfl ?_
    refine r_sR E.p 9 fG_X6_28 (by decide) dX6_takeInstance_77 ?_
    refine r_iload_n dX6_takeInstance_80 rfl 1 rfl ?_
    refine r_aload_n dX6_takeInstance_81 rfl 0 rfl ?_
    refine r_sR E.p 30 fG_X6_74 (by decide) dX6_takeInstance_82 ?_
    refine r_iload_n dX6_takeInstance_85 rfl 1 rfl ?_
    obtain ⟨g3, e⟩ := gd_o e
    refine r_saI E.p 30 rfl (by decide) (by decide) ha1 g3 rfl dX6_takeInstance_86 ?_
    obtain ⟨g4, e⟩ := gd_o e
    refine r_saP E.p 9 rfl (by decide) (by decide) ha1 g4 (((rr.mine rfl).a 30 (by decide) rfl).1 _) rfl dX6_takeInstance_87 ?_
    refine r_rrs E.p (fun rr5 => ?_)
    refine r_iconst dX6_takeInstance_88 ?_
    refine r_istore_n (lv' := [(2, ti 0), (0, tr (some b)), (1, ti a1)]) dX6_takeInstance_89 rfl (E.lt (by decide)) rfl ?_
    refine r_sub [1, 2, 0] rfl ?_
    exact wX6_takeInstance_L90 E FU (sA s 9 a1 (gA s 30 a1)) a1 0 ha1 (by decide) e
  · have e := eF c2
    refine r_aload_n dX6_takeInstance_48 rfl 0 rfl ?_
    refine r_sR E.p 7 fG_X6_22 (by decide) dX6_takeInstance_49 ?_
    refine r_iconst dX6_takeInstance_52 ?_
    refine r_iload_n dX6_takeInstance_53 rfl 1 rfl ?_
    refine r_imul dX6_takeInstance_54 ?_
    refine r_iload_n dX6_takeInstance_55 rfl 2 rfl ?_
    refine r_iadd dX6_takeInstance_56 ?_
    refine r_aload_n dX6_takeInstance_57 rfl 0 rfl ?_
    refine r_aload_n dX6_takeInstance_58 rfl 0 rfl ?_
    refine r_sR E.p 28 fG_X6_68 (by decide) dX6_takeInstance_59 ?_
    refine r_iload_n dX6_takeInstance_62 rfl 1 rfl ?_
    obtain ⟨g6, e⟩ := gd_o e
    refine r_saI E.p 28 rfl (by decide) (by decide) ha1 g6 rfl dX6_takeInstance_63 ?_
    refine r_iload_n dX6_takeInstance_64 rfl 2 rfl ?_
    refine r_iadd dX6_takeInstance_65 ?_
    obtain ⟨p7, q8, e⟩ := bd_o e
    have k9 := kX6_at (G := nG N) (b := b) (ad := ad) (h := h) (wr_r _) q8
    have z10 := (k9 rr).1.2.2.2
    refine r_callV (j := some 0) 1 [ti (wr ((gA s 28 a1) + a2))] (rec_sg (j := 0) (r := (RX6, TX6, 63)) rfl (by rw [E.p]; rfl)) rfl k9 (injO_1 E.p) (subO_1 E.p) getO_1 setO_1 (lw_V q1622 q1624 qs49 q123 q1625) (by decide +kernel) rfl (Nat.le_of_ble_eq_true rfl) (Nat.le_of_ble_eq_true rfl) rfl (Nat.le_of_ble_eq_true rfl) dX6_takeInstance_66 rfl ?_
    obtain ⟨g11, e⟩ := gd_o e
    refine r_saP E.p 7 rfl (by decide) (by decide) (wr_r _) g11 z10 rfl dX6_takeInstance_69 ?_
    refine r_rrs E.p (fun rr12 => ?_)
    refine r_iinc (lv' := [(2, ti (wr (a2 + 1))), (0, tr (some b)), (1, ti a1)]) dX6_takeInstance_70 2 rfl (E.lt (by decide)) rfl ?_
    refine r_goto 38 dX6_takeInstance_73 (by decide) ?_
    refine r_sub [1, 2, 0] rfl ?_
    exact hK38 (sA s 7 (wr ((wr (5 * a1)) + a2)) p7) a1 (wr (a2 + 1)) ha1 (wr_r _) e
def fX6_takeInstance_L38  : Nat → Sg → Int → Int → Option (Sg)
  | 0, _, _, _ => none
  | n9 + 1, s, a1, a2 => fX6_takeInstance_b38 (fX6_takeInstance_L38 n9) s a1 a2
theorem wX6_takeInstance_L38 {N : Nx} {b : Nat} {ad : Nat → Nat} {s' : Sg} {h : hS} (E : EndX N [(6, b, ad)] 4 none none [s'] h)  : ∀ (n9 : Nat), ∀ (s : Sg) (a1 : Int) (a2 : Int) (ha1 : rI a1) (ha2 : rI a2), fX6_takeInstance_L38 n9 s a1 a2 = some (s') → AtPc cX6_takeInstance RX6 2 42 N [s] h 38 [(0, tr (some b)), (1, ti a1), (2, ti a2)] [] := by
  intro n9
  induction n9 with
  | zero => intro s a1 a2 ha1 ha2 e; cases e
  | succ n9 ih => intro s a1 a2 ha1 ha2 e; exact wX6_takeInstance_b38 E _ ih s a1 a2 ha1 ha2 e
def fX6_takeInstance  (s : Sg) (a1 : Int) : Option (Sg) := gd (inb a1 6) (gd (inb a1 6) (gd (inb a1 6) (gd (inb a1 6) (gd (inb a1 6) (gd (inb a1 6) (fX6_takeInstance_L38 FU (sA (sA (sA s 5 a1 (gA s 26 a1)) 6 a1 (gA (sA s 5 a1 (gA s 26 a1)) 27 a1)) 8 a1 (gA (sA (sA s 5 a1 (gA s 26 a1)) 6 a1 (gA (sA s 5 a1 (gA s 26 a1)) 27 a1)) 29 a1)) a1 0))))))
theorem kX6_takeInstance {G : Gx}  {b : Nat} {ad : Nat → Nat} {s' : Sg} {h : hS} {s : Sg} {a1 : Int}  (ha1 : rI a1) (e : fX6_takeInstance s a1 = some (s')) : CtX G yX6_takeInstance cX6_takeInstance 4 none 2 42 [(6, b, ad)] [s] h [tr (some b), ti a1] none [s'] h := by
  refine CtX.of (by decide) (Nat.le_of_ble_eq_true rfl) [(0, tr (some b)), (1, ti a1)] rfl ?_
  have E : EndX (G, 4, [(6, b, ad)], h, [s'], h, none, none, yX6_takeInstance.name) [(6, b, ad)] 4 none none [s'] h := ⟨rfl, rfl, rfl, rfl, rfl, rfl⟩
  unfold fX6_takeInstance at e
  refine r_rrs E.p (fun rr => ?_)
  refine r_aload_n dX6_takeInstance_0 rfl 0 rfl ?_
  refine r_sR E.p 5 fG_X6_16 (by decide) dX6_takeInstance_1 ?_
  refine r_iload_n dX6_takeInstance_4 rfl 1 rfl ?_
  refine r_aload_n dX6_takeInstance_5 rfl 0 rfl ?_
  refine r_sR E.p 26 fG_X6_62 (by decide) dX6_takeInstance_6 ?_
  refine r_iload_n dX6_takeInstance_9 rfl 1 rfl ?_
  obtain ⟨g1, e⟩ := gd_o e
  refine r_saI E.p 26 rfl (by decide) (by decide) ha1 g1 rfl dX6_takeInstance_10 ?_
  obtain ⟨g2, e⟩ := gd_o e
  refine r_saP E.p 5 rfl (by decide) (by decide) ha1 g2 (((rr.mine rfl).a 26 (by decide) rfl).1 _) rfl dX6_takeInstance_11 ?_
  refine r_rrs E.p (fun rr3 => ?_)
  refine r_aload_n dX6_takeInstance_12 rfl 0 rfl ?_
  refine r_sR E.p 6 fG_X6_19 (by decide) dX6_takeInstance_13 ?_
  refine r_iload_n dX6_takeInstance_16 rfl 1 rfl ?_
  refine r_aload_n dX6_takeInstance_17 rfl 0 rfl ?_
  refine r_sR E.p 27 fG_X6_65 (by decide) dX6_takeInstance_18 ?_
  refine r_iload_n dX6_takeInstance_21 rfl 1 rfl ?_
  obtain ⟨g4, e⟩ := gd_o e
  refine r_saI E.p 27 rfl (by decide) (by decide) ha1 g4 rfl dX6_takeInstance_22 ?_
  obtain ⟨g5, e⟩ := gd_o e
  refine r_saP E.p 6 rfl (by decide) (by decide) ha1 g5 (((rr3.mine rfl).a 27 (by decide) rfl).1 _) rfl dX6_takeInstance_23 ?_
  refine r_rrs E.p (fun rr6 => ?_)
  refine r_aload_n dX6_takeInstance_24 rfl 0 rfl ?_
  refine r_sR E.p 8 fG_X6_25 (by decide) dX6_takeInstance_25 ?_
  refine r_iload_n dX6_takeInstance_28 rfl 1 rfl ?_
  refine r_aload_n dX6_takeInstance_29 rfl 0 rfl ?_
  refine r_sR E.p 29 fG_X6_71 (by decide) dX6_takeInstance_30 ?_
  refine r_iload_n dX6_takeInstance_33 rfl 1 rfl ?_
  obtain ⟨g7, e⟩ := gd_o e
  refine r_saI E.p 29 rfl (by decide) (by decide) ha1 g7 rfl dX6_takeInstance_34 ?_
  obtain ⟨g8, e⟩ := gd_o e
  refine r_saP E.p 8 rfl (by decide) (by decide) ha1 g8 (((rr6.mine rfl).a 29 (by decide) rfl).1 _) rfl dX6_takeInstance_35 ?_
  refine r_rrs E.p (fun rr9 => ?_)
  refine r_iconst dX6_takeInstance_36 ?_
  refine r_istore_n (lv' := [(2, ti 0), (0, tr (some b)), (1, ti a1)]) dX6_takeInstance_37 rfl (E.lt (by decide)) rfl ?_
  refine r_sub [1, 2, 0] rfl ?_
  exact wX6_takeInstance_L38 E FU (sA (sA (sA s 5 a1 (gA s 26 a1)) 6 a1 (gA (sA s 5 a1 (gA s 26 a1)) 27 a1)) 8 a1 (gA (sA (sA s 5 a1 (gA s 26 a1)) 6 a1 (gA (sA s 5 a1 (gA s 26 a1)) 27 a1)) 29 a1)) a1 0 ha1 (by decide) e
theorem fG_X6_233 : FldG RX6 233 [(6, 34)] := List.forall_mem_cons.mpr ⟨⟨RX6, TX6, 63, "DictProofModel", rfl, in_X6, by decide, q1439, Or.inl rfl⟩, fun _ h => absurd h List.not_mem_nil⟩
theorem fG_X6_80 : FldG RX6 80 [(6, 32)] := List.forall_mem_cons.mpr ⟨⟨RX6, TX6, 63, "DictProofModel", rfl, in_X6, by decide, q1437, Or.inl rfl⟩, fun _ h => absurd h List.not_mem_nil⟩
theorem fG_X6_83 : FldG RX6 83 [(6, 33)] := List.forall_mem_cons.mpr ⟨⟨RX6, TX6, 63, "DictProofModel", rfl, in_X6, by decide, q1438, Or.inl rfl⟩, fun _ h => absurd h List.not_mem_nil⟩
def fX6_laySizes_b17 (K7 : Sg → Int → Option (Sg)) (K17 : Sg → Int → Int → Int → Option (Sg)) (s : Sg) (a1 : Int) (a2 : Int) (a3 : Int) : Option (Sg) := gd (inb a1 9) (bd (fX6_wants (gA s 32 a1)) fun p2 => if p2 ≤ a3 then gd (inb a1 9) (K7 (sA s 33 a1 (wr (a2 - a1))) (wr (a1 + (-1)))) else gd (inb a2 9) (K17 s a1 (wr (a2 + (gA s 33 a2))) (wr (a3 + 1))))
theorem wX6_laySizes_b17 {N : Nx} {b : Nat} {ad : Nat → Nat} {s' : Sg} {h : hS} (E : EndX N [(6, b, ad)] 4 none none [s'] h) (K7 : Sg → Int → Option (Sg)) (hK7 : ∀ (s : Sg) (a1 : Int) (ha1 : rI a1), K7 s a1 = some (s') → AtPc cX6_laySizes RX6 1 20 N [s] h 7 [(0, tr (some b)), (1, ti a1)] []) (K17 : Sg → Int → Int → Int → Option (Sg)) (hK17 : ∀ (s : Sg) (a1 : Int) (a2 : Int) (a3 : Int) (ha1 : rI a1) (ha2 : rI a2) (ha3 : rI a3), K17 s a1 a2 a3 = some (s') → AtPc cX6_laySizes RX6 1 20 N [s] h 17 [(0, tr (some b)), (1, ti a1), (2, ti a2), (3, ti a3)] []) (s : Sg) (a1 : Int) (a2 : Int) (a3 : Int) (ha1 : rI a1) (ha2 : rI a2) (ha3 : rI a3) (e : fX6_laySizes_b17 K7 K17 s a1 a2 a3 = some (s')) : AtPc cX6_laySizes RX6 1 20 N [s] h 17 [(0, tr (some b)), (1, ti a1), (2, ti a2), (3, ti a3)] [] := by
  unfold fX6_laySizes_b17 at e
  refine r_rrs E.p (fun rr => ?_)
  refine r_iload_n dX6_laySizes_17 rfl 3 rfl ?_
  refine r_aload_n dX6_laySizes_18 rfl 0 rfl ?_
  refine r_sR E.p 32 fG_X6_80 (by decide) dX6_laySizes_19 ?_
  refine r_iload_n dX6_laySizes_22 rfl 1 rfl ?_
  obtain ⟨g1, e⟩ := gd_o e
  refine r_saI E.p 32 rfl (by decide) (by decide) ha1 g1 rfl dX6_laySizes_23 ?_
  obtain ⟨p2, q3, e⟩ := bd_o e
  have k4 := kX6_wants (G := nG N) (h := h) (((rr.mine rfl).a 32 (by decide) rfl).1 _) q3
  have z5 := (k4 rr.none).1.2.2.2
  refine r_callS (j := none) 1 [ti (gA s 32 a1)] k4 (injO_1 E.p) subO_0 getO_0 setO_0 (lw_S q1645 q1646 q123 q1647) (by decide +kernel) rfl (Nat.le_of_ble_eq_true rfl) (Nat.le_of_ble_eq_true rfl) rfl (Nat.le_of_ble_eq_true rfl) dX6_laySizes_24 rfl ?_
  have eT := (r_ifo e).1
  have eF := (r_ifo e).2
  refine r_icmp_ge ha3 z5 45 dX6_laySizes_27 (by decide) (fun c6 => ?_) (fun c6 => ?_)
  · have e := eT c6
    refine r_aload_n dX6_laySizes_45 rfl 0 rfl ?_
    refine r_sR E.p 33 fG_X6_83 (by decide) dX6_laySizes_46 ?_
    refine r_iload_n dX6_laySizes_49 rfl 1 rfl ?_
    refine r_iload_n dX6_laySizes_50 rfl 2 rfl ?_
    refine r_iload_n dX6_laySizes_51 rfl 1 rfl ?_
    refine r_isub dX6_laySizes_52 ?_
    obtain ⟨g7, e⟩ := gd_o e
    refine r_saP E.p 33 rfl (by decide) (by decide) ha1 g7 (wr_r _) rfl dX6_laySizes_53 ?_
    refine r_rrs E.p (fun rr8 => ?_)
    refine r_iinc (lv' := [(1, ti (wr (a1 + (-1)))), (0, tr (some b)), (2, ti a2), (3, ti a3)]) dX6_laySizes_54 1 rfl (E.lt (by decide)) rfl ?_
    refine r_goto 7 dX6_laySizes_57 (by decide) ?_
    refine r_sub [1, 0] rfl ?_
    exact hK7 (sA s 33 a1 (wr (a2 - a1))) (wr (a1 + (-1))) (wr_r _) e
  · have e := eF c6
    refine r_iload_n dX6_laySizes_30 rfl 2 rfl ?_
    refine r_aload_n dX6_laySizes_31 rfl 0 rfl ?_
    refine r_sR E.p 33 fG_X6_83 (by decide) dX6_laySizes_32 ?_
    refine r_iload_n dX6_laySizes_35 rfl 2 rfl ?_
    obtain ⟨g9, e⟩ := gd_o e
    refine r_saI E.p 33 rfl (by decide) (by decide) ha2 g9 rfl dX6_laySizes_36 ?_
    refine r_iadd dX6_laySizes_37 ?_
    refine r_istore_n (lv' := [(2, ti (wr (a2 + (gA s 33 a2)))), (0, tr (some b)), (1, ti a1), (3, ti a3)]) dX6_laySizes_38 rfl (E.lt (by decide)) rfl ?_
    refine r_iinc (lv' := [(3, ti (wr (a3 + 1))), (2, ti (wr (a2 + (gA s 33 a2)))), (0, tr (some b)), (1, ti a1)]) dX6_laySizes_39 3 rfl (E.lt (by decide)) rfl ?_
    refine r_goto 17 dX6_laySizes_42 (by decide) ?_
    refine r_sub [2, 3, 1, 0] rfl ?_
    exact hK17 s a1 (wr (a2 + (gA s 33 a2))) (wr (a3 + 1)) ha1 (wr_r _) (wr_r _) e
