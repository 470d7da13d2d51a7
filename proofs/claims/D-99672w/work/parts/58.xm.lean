set_option maxRecDepth 100000 in
/-- GingerRentsModel.<init>()V -/
noncomputable def x4_init (z : Nat) (sz sl : Nat) (kd : Kd) (P : Ptr) (I : Mem) (a : Nat) : Option (Unit × Sy) := moB sz sl <|
  (alA z kd sz (nI 115)).bind fun len2 =>
  nmA (sz + 1) (sl + len2) (upA kd sz (20, len2, 0)) (upA P sz (fun _ => none)) (upA I sz (fun _ => 0)) fun sz4 sl4 kd4 P4 I4 =>
  nm (upP P4 a 1 (some sz)) fun P6 =>
  (alA z kd4 sz4 (nI 690)).bind fun len8 =>
  nmA (sz4 + 1) (sl4 + len8) (upA kd4 sz4 (20, len8, 0)) (upA P6 sz4 (fun _ => none)) (upA I4 sz4 (fun _ => 0)) fun sz10 sl10 kd10 P10 I10 =>
  nm (upP P10 a 2 (some sz4)) fun P12 =>
  (alA z kd10 sz10 (nI 115)).bind fun len14 =>
  nmA (sz10 + 1) (sl10 + len14) (upA kd10 sz10 (20, len14, 0)) (upA P12 sz10 (fun _ => none)) (upA I10 sz10 (fun _ => 0)) fun sz16 sl16 kd16 P16 I16 =>
  nm (upP P16 a 4 (some sz10)) fun P18 =>
  (alA z kd16 sz16 (nI 12)).bind fun len20 =>
  nmA (sz16 + 1) (sl16 + len20) (upA kd16 sz16 (20, len20, 0)) (upA P18 sz16 (fun _ => none)) (upA I16 sz16 (fun _ => 0)) fun sz22 sl22 kd22 P22 I22 =>
  nm (upP P22 a 7 (some sz16)) fun P24 =>
  (alA z kd22 sz22 (nI 12)).bind fun len26 =>
  nmA (sz22 + 1) (sl22 + len26) (upA kd22 sz22 (20, len26, 0)) (upA P24 sz22 (fun _ => none)) (upA I22 sz22 (fun _ => 0)) fun sz28 sl28 kd28 P28 I28 =>
  nm (upP P28 a 8 (some sz22)) fun P30 =>
  (alA z kd28 sz28 (nI 600)).bind fun len32 =>
  nmA (sz28 + 1) (sl28 + len32) (upA kd28 sz28 (20, len32, 0)) (upA P30 sz28 (fun _ => none)) (upA I28 sz28 (fun _ => 0)) fun sz34 sl34 kd34 P34 I34 =>
  nm (upP P34 a 9 (some sz28)) fun P36 =>
  (alA z kd34 sz34 (nI 400)).bind fun len38 =>
  nmA (sz34 + 1) (sl34 + len38) (upA kd34 sz34 (20, len38, 0)) (upA P36 sz34 (fun _ => none)) (upA I34 sz34 (fun _ => 0)) fun sz40 sl40 kd40 P40 I40 =>
  nm (upP P40 a 10 (some sz34)) fun P42 =>
  (alA z kd40 sz40 (nI 141)).bind fun len44 =>
  nmA (sz40 + 1) (sl40 + len44) (upA kd40 sz40 (20, len44, 0)) (upA P42 sz40 (fun _ => none)) (upA I40 sz40 (fun _ => 0)) fun sz46 sl46 kd46 P46 I46 =>
  (wr I46 sz40 len44 (nI 0) (nI 32)).bind fun I48 =>
  (wr I48 sz40 len44 (nI 1) (nI 114)).bind fun I49 =>
  (wr I49 sz40 len44 (nI 2) (nI 101)).bind fun I50 =>
  (wr I50 sz40 len44 (nI 3) (nI 110)).bind fun I51 =>
  (wr I51 sz40 len44 (nI 4) (nI 116)).bind fun I52 =>
  (wr I52 sz40 len44 (nI 5) (nI 32)).bind fun I53 =>
  (wr I53 sz40 len44 (nI 6) (nI 103)).bind fun I54 =>
  (wr I54 sz40 len44 (nI 7) (nI 110)).bind fun I55 =>
  (wr I55 sz40 len44 (nI 8) (nI 97)).bind fun I56 =>
  (wr I56 sz40 len44 (nI 9) (nI 119)).bind fun I57 =>
  (wr I57 sz40 len44 (nI 10) (nI 115)).bind fun I58 =>
  (wr I58 sz40 len44 (nI 11) (nI 32)).bind fun I59 =>
  (wr I59 sz40 len44 (nI 12) (nI 109)).bind fun I60 =>
  (wr I60 sz40 len44 (nI 13) (nI 101)).bind fun I61 =>
  (wr I61 sz40 len44 (nI 14) (nI 108)).bind fun I62 =>
  (wr I62 sz40 len44 (nI 15) (nI 116)).bind fun I63 =>
  (wr I63 sz40 len44 (nI 16) (nI 115)).bind fun I64 =>
  (wr I64 sz40 len44 (nI 17) (nI 32)).bind fun I65 =>
  (wr I65 sz40 len44 (nI 18) (nI 119)).bind fun I66 =>
  (wr I66 sz40 len44 (nI 19) (nI 104)).bind fun I67 =>
  (wr I67 sz40 len44 (nI 20) (nI 101)).bind fun I68 =>
  (wr I68 sz40 len44 (nI 21) (nI 110)).bind fun I69 =>
  (wr I69 sz40 len44 (nI 22) (nI 32)).bind fun I70 =>
  (wr I70 sz40 len44 (nI 23) (nI 111)).bind fun I71 =>
  (wr I71 sz40 len44 (nI 24) (nI 114)).bind fun I72 =>
  (wr I72 sz40 len44 (nI 25) (nI 32)).bind fun I73 =>
  (wr I73 sz40 len44 (nI 26) (nI 97)).bind fun I74 =>
  (wr I74 sz40 len44 (nI 27) (nI 110)).bind fun I75 =>
  (wr I75 sz40 len44 (nI 28) (nI 100)).bind fun I76 =>
  (wr I76 sz40 len44 (nI 29) (nI 32)).bind fun I77 =>
  (wr I77 sz40 len44 (nI 30) (nI 110)).bind fun I78 =>
  (wr I78 sz40 len44 (nI 31) (nI 111)).bind fun I79 =>
  (wr I79 sz40 len44 (nI 32) (nI 116)).bind fun I80 =>
  (wr I80 sz40 len44 (nI 33) (nI 32)).bind fun I81 =>
  (wr I81 sz40 len44 (nI 34) (nI 119)).bind fun I82 =>
  (wr I82 sz40 len44 (nI 35) (nI 97)).bind fun I83 =>
  (wr I83 sz40 len44 (nI 36) (nI 108)).bind fun I84 =>
  (wr I84 sz40 len44 (nI 37) (nI 108)).bind fun I85 =>
  (wr I85 sz40 len44 (nI 38) (nI 32)).bind fun I86 =>
  (wr I86 sz40 len44 (nI 39) (nI 115)).bind fun I87 =>
  (wr I87 sz40 len44 (nI 40) (nI 117)).bind fun I88 =>
  (wr I88 sz40 len44 (nI 41) (nI 109)).bind fun I89 =>
  (wr I89 sz40 len44 (nI 42) (nI 32)).bind fun I90 =>
  (wr I90 sz40 len44 (nI 43) (nI 97)).bind fun I91 =>
  (wr I91 sz40 len44 (nI 44) (nI 108)).bind fun I92 =>
  (wr I92 sz40 len44 (nI 45) (nI 109)).bind fun I93 =>
  (wr I93 sz40 len44 (nI 46) (nI 111)).bind fun I94 =>
  (wr I94 sz40 len44 (nI 47) (nI 110)).bind fun I95 =>
  (wr I95 sz40 len44 (nI 48) (nI 100)).bind fun I96 =>
  (wr I96 sz40 len44 (nI 49) (nI 115)).bind fun I97 =>
  (wr I97 sz40 len44 (nI 50) (nI 32)).bind fun I98 =>
  (wr I98 sz40 len44 (nI 51) (nI 116)).bind fun I99 =>
  (wr I99 sz40 len44 (nI 52) (nI 101)).bind fun I100 =>
  (wr I100 sz40 len44 (nI 53) (nI 101)).bind fun I101 =>
  (wr I101 sz40 len44 (nI 54) (nI 116)).bind fun I102 =>
  (wr I102 sz40 len44 (nI 55) (nI 104)).bind fun I103 =>
  (wr I103 sz40 len44 (nI 56) (nI 32)).bind fun I104 =>
  (wr I104 sz40 len44 (nI 57) (nI 104)).bind fun I105 =>
  (wr I105 sz40 len44 (nI 58) (nI 97)).bind fun I106 =>
  (wr I106 sz40 len44 (nI 59) (nI 114)).bind fun I107 =>
  (wr I107 sz40 len44 (nI 60) (nI 100)).bind fun I108 =>
  (wr I108 sz40 len44 (nI 61) (nI 32)).bind fun I109 =>
  (wr I109 sz40 len44 (nI 62) (nI 105)).bind fun I110 =>
  (wr I110 sz40 len44 (nI 63) (nI 99)).bind fun I111 =>
  (wr I111 sz40 len44 (nI 64) (nI 105)).bind fun I112 =>
  (wr I112 sz40 len44 (nI 65) (nI 110)).bind fun I113 =>
  (wr I113 sz40 len44 (nI 66) (nI 103)).bind fun I114 =>
  (wr I114 sz40 len44 (nI 67) (nI 32)).bind fun I115 =>
  (wr I115 sz40 len44 (nI 68) (nI 108)).bind fun I116 =>
  (wr I116 sz40 len44 (nI 69) (nI 111)).bind fun I117 =>
  (wr I117 sz40 len44 (nI 70) (nI 100)).bind fun I118 =>
  (wr I118 sz40 len44 (nI 71) (nI 103)).bind fun I119 =>
  (wr I119 sz40 len44 (nI 72) (nI 101)).bind fun I120 =>
  (wr I120 sz40 len44 (nI 73) (nI 114)).bind fun I121 =>
  (wr I121 sz40 len44 (nI 74) (nI 115)).bind fun I122 =>
  (wr I122 sz40 len44 (nI 75) (nI 32)).bind fun I123 =>
  (wr I123 sz40 len44 (nI 76) (nI 100)).bind fun I124 =>
  (wr I124 sz40 len44 (nI 77) (nI 111)).bind fun I125 =>
  (wr I125 sz40 len44 (nI 78) (nI 111)).bind fun I126 =>
  (wr I126 sz40 len44 (nI 79) (nI 114)).bind fun I127 =>
  (wr I127 sz40 len44 (nI 80) (nI 32)).bind fun I128 =>
  (wr I128 sz40 len44 (nI 81) (nI 97)).bind fun I129 =>
  (wr I129 sz40 len44 (nI 82) (nI 103)).bind fun I130 =>
  (wr I130 sz40 len44 (nI 83) (nI 101)).bind fun I131 =>
  (wr I131 sz40 len44 (nI 84) (nI 32)).bind fun I132 =>
  (wr I132 sz40 len44 (nI 85) (nI 114)).bind fun I133 =>
  (wr I133 sz40 len44 (nI 86) (nI 97)).bind fun I134 =>
  (wr I134 sz40 len44 (nI 87) (nI 105)).bind fun I135 =>
  (wr I135 sz40 len44 (nI 88) (nI 110)).bind fun I136 =>
  (wr I136 sz40 len44 (nI 89) (nI 32)).bind fun I137 =>
  (wr I137 sz40 len44 (nI 90) (nI 102)).bind fun I138 =>
  (wr I138 sz40 len44 (nI 91) (nI 114)).bind fun I139 =>
  (wr I139 sz40 len44 (nI 92) (nI 111)).bind fun I140 =>
  (wr I140 sz40 len44 (nI 93) (nI 115)).bind fun I141 =>
  (wr I141 sz40 len44 (nI 94) (nI 116)).bind fun I142 =>
  (wr I142 sz40 len44 (nI 95) (nI 32)).bind fun I143 =>
  (wr I143 sz40 len44 (nI 96) (nI 113)).bind fun I144 =>
  (wr I144 sz40 len44 (nI 97) (nI 117)).bind fun I145 =>
  (wr I145 sz40 len44 (nI 98) (nI 97)).bind fun I146 =>
  (wr I146 sz40 len44 (nI 99) (nI 114)).bind fun I147 =>
  (wr I147 sz40 len44 (nI 100) (nI 116)).bind fun I148 =>
  (wr I148 sz40 len44 (nI 101) (nI 101)).bind fun I149 =>
  (wr I149 sz40 len44 (nI 102) (nI 114)).bind fun I150 =>
  (wr I150 sz40 len44 (nI 103) (nI 32)).bind fun I151 =>
  (wr I151 sz40 len44 (nI 104) (nI 105)).bind fun I152 =>
  (wr I152 sz40 len44 (nI 105) (nI 110)).bind fun I153 =>
  (wr I153 sz40 len44 (nI 106) (nI 32)).bind fun I154 =>
  (wr I154 sz40 len44 (nI 107) (nI 116)).bind fun I155 =>
  (wr I155 sz40 len44 (nI 108) (nI 104)).bind fun I156 =>
  (wr I156 sz40 len44 (nI 109) (nI 97)).bind fun I157 =>
  (wr I157 sz40 len44 (nI 110) (nI 119)).bind fun I158 =>
  (wr I158 sz40 len44 (nI 111) (nI 32)).bind fun I159 =>
  (wr I159 sz40 len44 (nI 112) (nI 105)).bind fun I160 =>
  (wr I160 sz40 len44 (nI 113) (nI 99)).bind fun I161 =>
  (wr I161 sz40 len44 (nI 114) (nI 101)).bind fun I162 =>
  (wr I162 sz40 len44 (nI 115) (nI 32)).bind fun I163 =>
  (wr I163 sz40 len44 (nI 116) (nI 98)).bind fun I164 =>
  (wr I164 sz40 len44 (nI 117) (nI 97)).bind fun I165 =>
  (wr I165 sz40 len44 (nI 118) (nI 107)).bind fun I166 =>
  (wr I166 sz40 len44 (nI 119) (nI 101)).bind fun I167 =>
  (wr I167 sz40 len44 (nI 120) (nI 32)).bind fun I168 =>
  (wr I168 sz40 len44 (nI 121) (nI 119)).bind fun I169 =>
  (wr I169 sz40 len44 (nI 122) (nI 101)).bind fun I170 =>
  (wr I170 sz40 len44 (nI 123) (nI 100)).bind fun I171 =>
  (wr I171 sz40 len44 (nI 124) (nI 32)).bind fun I172 =>
  (wr I172 sz40 len44 (nI 125) (nI 114)).bind fun I173 =>
  (wr I173 sz40 len44 (nI 126) (nI 97)).bind fun I174 =>
  (wr I174 sz40 len44 (nI 127) (nI 122)).bind fun I175 =>
  (wr I175 sz40 len44 (nI 128) (nI 101)).bind fun I176 =>
  (wr I176 sz40 len44 (nI 129) (nI 32)).bind fun I177 =>
  (wr I177 sz40 len44 (nI 130) (nI 104)).bind fun I178 =>
  (wr I178 sz40 len44 (nI 131) (nI 111)).bind fun I179 =>
  (wr I179 sz40 len44 (nI 132) (nI 117)).bind fun I180 =>
  (wr I180 sz40 len44 (nI 133) (nI 115)).bind fun I181 =>
  (wr I181 sz40 len44 (nI 134) (nI 101)).bind fun I182 =>
  (wr I182 sz40 len44 (nI 135) (nI 32)).bind fun I183 =>
  (wr I183 sz40 len44 (nI 136) (nI 110)).bind fun I184 =>
  (wr I184 sz40 len44 (nI 137) (nI 101)).bind fun I185 =>
  (wr I185 sz40 len44 (nI 138) (nI 120)).bind fun I186 =>
  (wr I186 sz40 len44 (nI 139) (nI 116)).bind fun I187 =>
  (wr I187 sz40 len44 (nI 140) (nI 32)).bind fun I188 =>
  nm (upP P46 a 16 (some sz40)) fun P189 =>
  (alA z kd46 sz46 (nI 2)).bind fun len191 =>
  nmA (sz46 + 1) (sl46 + len191) (upA kd46 sz46 (20, len191, 0)) (upA P189 sz46 (fun _ => none)) (upA I188 sz46 (fun _ => 0)) fun sz193 sl193 kd193 P193 I193 =>
  nm (upP P193 a 17 (some sz46)) fun P195 =>
  (alA z kd193 sz193 (nI 48)).bind fun len197 =>
  nmA (sz193 + 1) (sl193 + len197) (upA kd193 sz193 (20, len197, 0)) (upA P195 sz193 (fun _ => none)) (upA I193 sz193 (fun _ => 0)) fun sz199 sl199 kd199 P199 I199 =>
  nm (upP P199 a 18 (some sz193)) fun P201 =>
  (alA z kd199 sz199 (nI 48)).bind fun len203 =>
  nmA (sz199 + 1) (sl199 + len203) (upA kd199 sz199 (20, len203, 0)) (upA P201 sz199 (fun _ => none)) (upA I199 sz199 (fun _ => 0)) fun sz205 sl205 kd205 P205 I205 =>
  nm (upP P205 a 19 (some sz199)) fun P207 =>
  (alA z kd205 sz205 (nI 48)).bind fun len209 =>
  nmA (sz205 + 1) (sl205 + len209) (upA kd205 sz205 (20, len209, 0)) (upA P207 sz205 (fun _ => none)) (upA I205 sz205 (fun _ => 0)) fun sz211 sl211 kd211 P211 I211 =>
  nm (upP P211 a 20 (some sz205)) fun P213 =>
  (alA z kd211 sz211 (nI 48)).bind fun len215 =>
  nmA (sz211 + 1) (sl211 + len215) (upA kd211 sz211 (20, len215, 0)) (upA P213 sz211 (fun _ => none)) (upA I211 sz211 (fun _ => 0)) fun sz217 sl217 kd217 P217 I217 =>
  nm (upP P217 a 21 (some sz211)) fun P219 =>
  (alA z kd217 sz217 (nI 1200)).bind fun len221 =>
  nmA (sz217 + 1) (sl217 + len221) (upA kd217 sz217 (20, len221, 0)) (upA P219 sz217 (fun _ => none)) (upA I217 sz217 (fun _ => 0)) fun sz223 sl223 kd223 P223 I223 =>
  nm (upP P223 a 22 (some sz217)) fun P225 =>
  (alA z kd223 sz223 (nI 1200)).bind fun len227 =>
  nmA (sz223 + 1) (sl223 + len227) (upA kd223 sz223 (20, len227, 0)) (upA P225 sz223 (fun _ => none)) (upA I223 sz223 (fun _ => 0)) fun sz229 sl229 kd229 P229 I229 =>
  nm (upP P229 a 23 (some sz223)) fun P231 =>
  (alA z kd229 sz229 (nI 40)).bind fun len233 =>
  nmA (sz229 + 1) (sl229 + len233) (upA kd229 sz229 (20, len233, 0)) (upA P231 sz229 (fun _ => none)) (upA I229 sz229 (fun _ => 0)) fun sz235 sl235 kd235 P235 I235 =>
  nm (upP P235 a 27 (some sz229)) fun P237 =>
  nm (up2 I235 a 32 (-1 : Int32)) fun I238 =>
  (alA z kd235 sz235 (nI 96)).bind fun len240 =>
  nmA (sz235 + 1) (sl235 + len240) (upA kd235 sz235 (20, len240, 0)) (upA P237 sz235 (fun _ => none)) (upA I238 sz235 (fun _ => 0)) fun sz242 sl242 kd242 P242 I242 =>
  nm (upP P242 a 34 (some sz235)) fun P244 =>
  (alA z kd242 sz242 (nI 160)).bind fun len246 =>
  nmA (sz242 + 1) (sl242 + len246) (upA kd242 sz242 (20, len246, 0)) (upA P244 sz242 (fun _ => none)) (upA I242 sz242 (fun _ => 0)) fun sz248 sl248 kd248 P248 I248 =>
  nm (upP P248 a 36 (some sz242)) fun P250 =>
  (alA z kd248 sz248 (nI 24)).bind fun len252 =>
  nmA (sz248 + 1) (sl248 + len252) (upA kd248 sz248 (20, len252, 0)) (upA P250 sz248 (fun _ => none)) (upA I248 sz248 (fun _ => 0)) fun sz254 sl254 kd254 P254 I254 =>
  nm (upP P254 a 38 (some sz248)) fun P256 =>
  (alA z kd254 sz254 (nI 12)).bind fun len258 =>
  nmA (sz254 + 1) (sl254 + len258) (upA kd254 sz254 (20, len258, 0)) (upA P256 sz254 (fun _ => none)) (upA I254 sz254 (fun _ => 0)) fun sz260 sl260 kd260 P260 I260 =>
  nm (upP P260 a 39 (some sz254)) fun P262 =>
  (alA z kd260 sz260 (nI 420)).bind fun len264 =>
  nmA (sz260 + 1) (sl260 + len264) (upA kd260 sz260 (20, len264, 0)) (upA P262 sz260 (fun _ => none)) (upA I260 sz260 (fun _ => 0)) fun sz266 sl266 kd266 P266 I266 =>
  nm (upP P266 a 40 (some sz260)) fun P268 =>
  (alA z kd266 sz266 (nI 12)).bind fun len270 =>
  nmA (sz266 + 1) (sl266 + len270) (upA kd266 sz266 (20, len270, 0)) (upA P268 sz266 (fun _ => none)) (upA I266 sz266 (fun _ => 0)) fun sz272 sl272 kd272 P272 I272 =>
  nm (upP P272 a 41 (some sz266)) fun P274 =>
  (alA z kd272 sz272 (nI 9)).bind fun len276 =>
  nmA (sz272 + 1) (sl272 + len276) (upA kd272 sz272 (20, len276, 0)) (upA P274 sz272 (fun _ => none)) (upA I272 sz272 (fun _ => 0)) fun sz278 sl278 kd278 P278 I278 =>
  nm (upP P278 a 43 (some sz272)) fun P280 =>
  (alA z kd278 sz278 (nI 100)).bind fun len282 =>
  nmA (sz278 + 1) (sl278 + len282) (upA kd278 sz278 (20, len282, 0)) (upA P280 sz278 (fun _ => none)) (upA I278 sz278 (fun _ => 0)) fun sz284 sl284 kd284 P284 I284 =>
  nm (upP P284 a 44 (some sz278)) fun P286 =>
  (alA z kd284 sz284 (nI 8)).bind fun len288 =>
  nmA (sz284 + 1) (sl284 + len288) (upA kd284 sz284 (20, len288, 0)) (upA P286 sz284 (fun _ => none)) (upA I284 sz284 (fun _ => 0)) fun sz290 sl290 kd290 P290 I290 =>
  nm (upP P290 a 46 (some sz284)) fun P292 =>
  (alA z kd290 sz290 (nI 256)).bind fun len294 =>
  nmA (sz290 + 1) (sl290 + len294) (upA kd290 sz290 (20, len294, 0)) (upA P292 sz290 (fun _ => none)) (upA I290 sz290 (fun _ => 0)) fun sz296 sl296 kd296 P296 I296 =>
  nm (upP P296 a 47 (some sz290)) fun P298 =>
  (alA z kd296 sz296 (nI 8)).bind fun len300 =>
  nmA (sz296 + 1) (sl296 + len300) (upA kd296 sz296 (20, len300, 0)) (upA P298 sz296 (fun _ => none)) (upA I296 sz296 (fun _ => 0)) fun sz302 sl302 kd302 P302 I302 =>
  nm (upP P302 a 48 (some sz296)) fun P304 =>
  (alA z kd302 sz302 (nI 5)).bind fun len306 =>
  nmA (sz302 + 1) (sl302 + len306) (upA kd302 sz302 (20, len306, 0)) (upA P304 sz302 (fun _ => none)) (upA I302 sz302 (fun _ => 0)) fun sz308 sl308 kd308 P308 I308 =>
  nm (upP P308 a 50 (some sz302)) fun P310 =>
  (alA z kd308 sz308 (nI 8)).bind fun len312 =>
  nmA (sz308 + 1) (sl308 + len312) (upA kd308 sz308 (20, len312, 0)) (upA P310 sz308 (fun _ => none)) (upA I308 sz308 (fun _ => 0)) fun sz314 sl314 kd314 P314 I314 =>
  nm (upP P314 a 52 (some sz308)) fun P316 =>
  (alA z kd314 sz314 (nI 8)).bind fun len318 =>
  nmA (sz314 + 1) (sl314 + len318) (upA kd314 sz314 (20, len318, 0)) (upA P316 sz314 (fun _ => none)) (upA I314 sz314 (fun _ => 0)) fun sz320 sl320 kd320 P320 I320 =>
  nm (upP P320 a 53 (some sz314)) fun P322 =>
  (alA z kd320 sz320 (nI 16)).bind fun len324 =>
  nmA (sz320 + 1) (sl320 + len324) (upA kd320 sz320 (20, len324, 0)) (upA P322 sz320 (fun _ => none)) (upA I320 sz320 (fun _ => 0)) fun sz326 sl326 kd326 P326 I326 =>
  nm (upP P326 a 55 (some sz320)) fun P328 =>
  (alA z kd326 sz326 (nI 1681)).bind fun len330 =>
  nmA (sz326 + 1) (sl326 + len330) (upA kd326 sz326 (20, len330, 0)) (upA P328 sz326 (fun _ => none)) (upA I326 sz326 (fun _ => 0)) fun sz332 sl332 kd332 P332 I332 =>
  nm (upP P332 a 56 (some sz326)) fun P334 =>
  (alA z kd332 sz332 (nI 6)).bind fun len336 =>
  nmA (sz332 + 1) (sl332 + len336) (upA kd332 sz332 (20, len336, 0)) (upA P334 sz332 (fun _ => none)) (upA I332 sz332 (fun _ => 0)) fun sz338 sl338 kd338 P338 I338 =>
  nm (upP P338 a 58 (some sz332)) fun P340 =>
  (alA z kd338 sz338 (nI 6)).bind fun len342 =>
  nmA (sz338 + 1) (sl338 + len342) (upA kd338 sz338 (20, len342, 0)) (upA P340 sz338 (fun _ => none)) (upA I338 sz338 (fun _ => 0)) fun sz344 sl344 kd344 P344 I344 =>
  nm (upP P344 a 59 (some sz338)) fun P346 =>
  (alA z kd344 sz344 (nI 6)).bind fun len348 =>
  nmA (sz344 + 1) (sl344 + len348) (upA kd344 sz344 (20, len348, 0)) (upA P346 sz344 (fun _ => none)) (upA I344 sz344 (fun _ => 0)) fun sz350 sl350 kd350 P350 I350 =>
  nm (upP P350 a 60 (some sz344)) fun P352 =>
  (alA z kd350 sz350 (nI 6)).bind fun len354 =>
  nmA (sz350 + 1) (sl350 + len354) (upA kd350 sz350 (20, len354, 0)) (upA P352 sz350 (fun _ => none)) (upA I350 sz350 (fun _ => 0)) fun sz356 sl356 kd356 P356 I356 =>
  nm (upP P356 a 61 (some sz350)) fun P358 =>
  (alA z kd356 sz356 (nI 12)).bind fun len360 =>
  nmA (sz356 + 1) (sl356 + len360) (upA kd356 sz356 (20, len360, 0)) (upA P358 sz356 (fun _ => none)) (upA I356 sz356 (fun _ => 0)) fun sz362 sl362 kd362 P362 I362 =>
  nm (upP P362 a 63 (some sz356)) fun P364 =>
  (alA z kd362 sz362 (nI 21)).bind fun len366 =>
  nmA (sz362 + 1) (sl362 + len366) (upA kd362 sz362 (20, len366, 0)) (upA P364 sz362 (fun _ => none)) (upA I362 sz362 (fun _ => 0)) fun sz368 sl368 kd368 P368 I368 =>
  nm (upP P368 a 64 (some sz362)) fun P370 =>
  (alA z kd368 sz368 (nI 21)).bind fun len372 =>
  nmA (sz368 + 1) (sl368 + len372) (upA kd368 sz368 (20, len372, 0)) (upA P370 sz368 (fun _ => none)) (upA I368 sz368 (fun _ => 0)) fun sz374 sl374 kd374 P374 I374 =>
  nm (upP P374 a 65 (some sz368)) fun P376 =>
  (alA z kd374 sz374 (nI 8)).bind fun len378 =>
  nmA (sz374 + 1) (sl374 + len378) (upA kd374 sz374 (20, len378, 0)) (upA P376 sz374 (fun _ => none)) (upA I374 sz374 (fun _ => 0)) fun sz380 sl380 kd380 P380 I380 =>
  nm (upP P380 a 67 (some sz374)) fun P382 =>
  (alA z kd380 sz380 (nI 8)).bind fun len384 =>
  nmA (sz380 + 1) (sl380 + len384) (upA kd380 sz380 (20, len384, 0)) (upA P382 sz380 (fun _ => none)) (upA I380 sz380 (fun _ => 0)) fun sz386 sl386 kd386 P386 I386 =>
  nm (upP P386 a 68 (some sz380)) fun P388 =>
  (alA z kd386 sz386 (nI 16807)).bind fun len390 =>
  nmA (sz386 + 1) (sl386 + len390) (upA kd386 sz386 (20, len390, 0)) (upA P388 sz386 (fun _ => none)) (upA I386 sz386 (fun _ => 0)) fun sz392 sl392 kd392 P392 I392 =>
  nm (upP P392 a 69 (some sz386)) fun P394 =>
  (alA z kd392 sz392 (nI 5)).bind fun len396 =>
  nmA (sz392 + 1) (sl392 + len396) (upA kd392 sz392 (20, len396, 0)) (upA P394 sz392 (fun _ => none)) (upA I392 sz392 (fun _ => 0)) fun sz398 sl398 kd398 P398 I398 =>
  nm (upP P398 a 70 (some sz392)) fun P400 =>
  (alA z kd398 sz398 (nI 2400)).bind fun len402 =>
  nmA (sz398 + 1) (sl398 + len402) (upA kd398 sz398 (20, len402, 0)) (upA P400 sz398 (fun _ => none)) (upA I398 sz398 (fun _ => 0)) fun sz404 sl404 kd404 P404 I404 =>
  nm (upP P404 a 74 (some sz398)) fun P406 =>
  some ((), sz404, sl404, kd404, P406, I404)
theorem wdb_x4_init : yX4_init.cls ≠ "java/lang/invoke/MethodHandle" ∧ yX4_init.cls ≠ "java/lang/invoke/VarHandle" ∧ (parseMethodDescriptor yX4_init.desc).map (fun d => d.parameters.length) = some 0 := by decide
set_option maxRecDepth 100000 in
theorem ct_x4_init {cs : Cs} {z : Nat} (sz sl : Nat) (kd : Kd) (P : Ptr) (I : Mem) (a : Nat) (ha : kd a = (44, 0, 0)) : CtB cs z yX4_init cX4_init 1 none (2) (40) [.ref a] (sz, sl, kd, P, I) (fun _ => none) (x4_init z sz sl kd P I a) := by
  refine CtB.ofM RX4 (by decide) rfl (Nat.le_of_ble_eq_true rfl) ?_
  intro l D p e s m args below meth c hlt hsh K hr hlk hname hK
  refine g_sub (ls' := [(0, .ref a)]) [0] rfl ?_
  refine g_aloadn K 0 rfl rfl 1 dX4_init_0 rfl ?_
  refine ga_objInit K hK hsh 4 q1484 q192 q193 (Nat.le_of_ble_eq_true rfl) (Nat.le_of_ble_eq_true rfl) (Nat.le_of_ble_eq_true rfl) dX4_init_1 rfl ?_
  refine g_aloadn K 0 rfl rfl 5 dX4_init_4 rfl ?_
  refine g_bipush K (nI 115) bp_115 7 dX4_init_5 rfl ?_
  refine ga_newi K hK hsh 9 dX4_init_7 rfl q220 (fun len2 hl3 hn1 hsh => ?_)
  refine g_nmA (fun sz4 sl4 kd4 P4 I4 _ _ he4 _ _ => ?_)
  replace hsh : Shp z kd4 := by rw [he4]; exact hsh
  have hk5 := kd_keep hn1 he4 (Nat.le_of_ble_eq_true rfl) ha
  refine ga_putpF K hK hsh 1 (ty := .array (.int)) 12 in_X4 tyX4 tyX4_ok nmX4 hk5 rfl rfl (Nat.le_of_ble_eq_true rfl) rfl (by decide) q1486 rfl hname rfl (by decide +kernel) rfl rfl (Nat.le_of_ble_eq_true rfl) dX4_init_9 rfl (fun P6 _ => ?_)
  refine g_aloadn K 0 rfl rfl 13 dX4_init_12 rfl ?_
  refine g_sipush K (nI 690) sp_690 16 dX4_init_13 rfl ?_
  refine ga_newi K hK hsh 18 dX4_init_16 rfl q220 (fun len8 hl9 hn7 hsh => ?_)
  refine g_nmA (fun sz10 sl10 kd10 P10 I10 _ _ he10 _ _ => ?_)
  replace hsh : Shp z kd10 := by rw [he10]; exact hsh
  have hk11 := kd_keep hn7 he10 (Nat.le_of_ble_eq_true rfl) hk5
  refine ga_putpF K hK hsh 2 (ty := .array (.int)) 21 in_X4 tyX4 tyX4_ok nmX4 hk11 rfl rfl (Nat.le_of_ble_eq_true rfl) rfl (by decide) q1487 rfl hname rfl (by decide +kernel) rfl rfl (Nat.le_of_ble_eq_true rfl) dX4_init_18 rfl (fun P12 _ => ?_)
  refine g_aloadn K 0 rfl rfl 22 dX4_init_21 rfl ?_
  refine g_bipush K (nI 115) bp_115 24 dX4_init_22 rfl ?_
  refine ga_newi K hK hsh 26 dX4_init_24 rfl q220 (fun len14 hl15 hn13 hsh => ?_)
  refine g_nmA (fun sz16 sl16 kd16 P16 I16 _ _ he16 _ _ => ?_)
  replace hsh : Shp z kd16 := by rw [he16]; exact hsh
  have hk17 := kd_keep hn13 he16 (Nat.le_of_ble_eq_true rfl) hk11
  refine ga_putpF K hK hsh 4 (ty := .array (.int)) 29 in_X4 tyX4 tyX4_ok nmX4 hk17 rfl rfl (Nat.le_of_ble_eq_true rfl) rfl (by decide) q1489 rfl hname rfl (by decide +kernel) rfl rfl (Nat.le_of_ble_eq_true rfl) dX4_init_26 rfl (fun P18 _ => ?_)
  refine g_aloadn K 0 rfl rfl 30 dX4_init_29 rfl ?_
  refine g_bipush K (nI 12) bp_12 32 dX4_init_30 rfl ?_
  refine ga_newi K hK hsh 34 dX4_init_32 rfl q220 (fun len20 hl21 hn19 hsh => ?_)
  refine g_nmA (fun sz22 sl22 kd22 P22 I22 _ _ he22 _ _ => ?_)
  replace hsh : Shp z kd22 := by rw [he22]; exact hsh
  have hk23 := kd_keep hn19 he22 (Nat.le_of_ble_eq_true rfl) hk17
  refine ga_putpF K hK hsh 7 (ty := .array (.int)) 37 in_X4 tyX4 tyX4_ok nmX4 hk23 rfl rfl (Nat.le_of_ble_eq_true rfl) rfl (by decide) q1492 rfl hname rfl (by decide +kernel) rfl rfl (Nat.le_of_ble_eq_true rfl) dX4_init_34 rfl (fun P24 _ => ?_)
  refine g_aloadn K 0 rfl rfl 38 dX4_init_37 rfl ?_
  refine g_bipush K (nI 12) bp_12 40 dX4_init_38 rfl ?_
  refine ga_newi K hK hsh 42 dX4_init_40 rfl q220 (fun len26 hl27 hn25 hsh => ?_)
  refine g_nmA (fun sz28 sl28 kd28 P28 I28 _ _ he28 _ _ => ?_)
  replace hsh : Shp z kd28 := by rw [he28]; exact hsh
  have hk29 := kd_keep hn25 he28 (Nat.le_of_ble_eq_true rfl) hk23
  refine ga_putpF K hK hsh 8 (ty := .array (.int)) 45 in_X4 tyX4 tyX4_ok nmX4 hk29 rfl rfl (Nat.le_of_ble_eq_true rfl) rfl (by decide) q1493 rfl hname rfl (by decide +kernel) rfl rfl (Nat.le_of_ble_eq_true rfl) dX4_init_42 rfl (fun P30 _ => ?_)
  refine g_aloadn K 0 rfl rfl 46 dX4_init_45 rfl ?_
  refine g_sipush K (nI 600) sp_600 49 dX4_init_46 rfl ?_
  refine ga_newi K hK hsh 51 dX4_init_49 rfl q220 (fun len32 hl33 hn31 hsh => ?_)
  refine g_nmA (fun sz34 sl34 kd34 P34 I34 _ _ he34 _ _ => ?_)
  replace hsh : Shp z kd34 := by rw [he34]; exact hsh
  have hk35 := kd_keep hn31 he34 (Nat.le_of_ble_eq_true rfl) hk29
  refine ga_putpF K hK hsh 9 (ty := .array (.int)) 54 in_X4 tyX4 tyX4_ok nmX4 hk35 rfl rfl (Nat.le_of_ble_eq_true rfl) rfl (by decide) q1494 rfl hname rfl (by decide +kernel) rfl rfl (Nat.le_of_ble_eq_true rfl) dX4_init_51 rfl (fun P36 _ => ?_)
  refine g_aloadn K 0 rfl rfl 55 dX4_init_54 rfl ?_
  refine g_sipush K (nI 400) sp_400 58 dX4_init_55 rfl ?_
  refine ga_newi K hK hsh 60 dX4_init_58 rfl q220 (fun len38 hl39 hn37 hsh => ?_)
  refine g_nmA (fun sz40 sl40 kd40 P40 I40 _ _ he40 _ _ => ?_)
  replace hsh : Shp z kd40 := by rw [he40]; exact hsh
  have hk41 := kd_keep hn37 he40 (Nat.le_of_ble_eq_true rfl) hk35
  refine ga_putpF K hK hsh 10 (ty := .array (.int)) 63 in_X4 tyX4 tyX4_ok nmX4 hk41 rfl rfl (Nat.le_of_ble_eq_true rfl) rfl (by decide) q1495 rfl hname rfl (by decide +kernel) rfl rfl (Nat.le_of_ble_eq_true rfl) dX4_init_60 rfl (fun P42 _ => ?_)
  refine g_aloadn K 0 rfl rfl 64 dX4_init_63 rfl ?_
  refine g_sipush K (nI 141) sp_141 67 dX4_init_64 rfl ?_
  refine ga_newi K hK hsh 69 dX4_init_67 rfl q220 (fun len44 hl45 hn43 hsh => ?_)
  refine g_nmA (fun sz46 sl46 kd46 P46 I46 _ _ he46 _ _ => ?_)
  replace hsh : Shp z kd46 := by rw [he46]; exact hsh
  have hk47 := kd_keep hn43 he46 (Nat.le_of_ble_eq_true rfl) hk41
  refine g_dup K rfl 70 dX4_init_69 rfl ?_
  refine g_iconst K (nI 0) ic_0 71 dX4_init_70 rfl ?_
  refine g_bipush K (nI 32) bp_32 73 dX4_init_71 rfl ?_
  refine gx_ast K hK hsh 74 (kd_new he46) dX4_init_73 rfl (fun I48 => ?_)
  refine g_dup K rfl 75 dX4_init_74 rfl ?_
  refine g_iconst K (nI 1) ic_1 76 dX4_init_75 rfl ?_
  refine g_bipush K (nI 114) bp_114 78 dX4_init_76 rfl ?_
  refine gx_ast K hK hsh 79 (kd_new he46) dX4_init_78 rfl (fun I49 => ?_)
  refine g_dup K rfl 80 dX4_init_79 rfl ?_
  refine g_iconst K (nI 2) ic_2 81 dX4_init_80 rfl ?_
  refine g_bipush K (nI 101) bp_101 83 dX4_init_81 rfl ?_
  refine gx_ast K hK hsh 84 (kd_new he46) dX4_init_83 rfl (fun I50 => ?_)
  refine g_dup K rfl 85 dX4_init_84 rfl ?_
  refine g_iconst K (nI 3) ic_3 86 dX4_init_85 rfl ?_
  refine g_bipush K (nI 110) bp_110 88 dX4_init_86 rfl ?_
  refine gx_ast K hK hsh 89 (kd_new he46) dX4_init_88 rfl (fun I51 => ?_)
  refine g_dup K rfl 90 dX4_init_89 rfl ?_
  refine g_iconst K (nI 4) ic_4 91 dX4_init_90 rfl ?_
  refine g_bipush K (nI 116) bp_116 93 dX4_init_91 rfl ?_
  refine gx_ast K hK hsh 94 (kd_new he46) dX4_init_93 rfl (fun I52 => ?_)
  refine g_dup K rfl 95 dX4_init_94 rfl ?_
  refine g_iconst K (nI 5) ic_5 96 dX4_init_95 rfl ?_
  refine g_bipush K (nI 32) bp_32 98 dX4_init_96 rfl ?_
  refine gx_ast K hK hsh 99 (kd_new he46) dX4_init_98 rfl (fun I53 => ?_)
  refine g_dup K rfl 100 dX4_init_99 rfl ?_
  refine g_bipush K (nI 6) bp_6 102 dX4_init_100 rfl ?_
  refine g_bipush K (nI 103) bp_103 104 dX4_init_102 rfl ?_
  refine gx_ast K hK hsh 105 (kd_new he46) dX4_init_104 rfl (fun I54 => ?_)
  refine g_dup K rfl 106 dX4_init_105 rfl ?_
  refine g_bipush K (nI 7) bp_7 108 dX4_init_106 rfl ?_
  refine g_bipush K (nI 110) bp_110 110 dX4_init_108 rfl ?_
  refine gx_ast K hK hsh 111 (kd_new he46) dX4_init_110 rfl (fun I55 => ?_)
  refine g_dup K rfl 112 dX4_init_111 rfl ?_
  refine g_bipush K (nI 8) bp_8 114 dX4_init_112 rfl ?_
  refine g_bipush K (nI 97) bp_97 116 dX4_init_114 rfl ?_
  refine gx_ast K hK hsh 117 (kd_new he46) dX4_init_116 rfl (fun I56 => ?_)
  refine g_dup K rfl 118 dX4_init_117 rfl ?_
  refine g_bipush K (nI 9) bp_9 120 dX4_init_118 rfl ?_
  refine g_bipush K (nI 119) bp_119 122 dX4_init_120 rfl ?_
  refine gx_ast K hK hsh 123 (kd_new he46) dX4_init_122 rfl (fun I57 => ?_)
  refine g_dup K rfl 124 dX4_init_123 rfl ?_
  refine g_bipush K (nI 10) bp_10 126 dX4_init_124 rfl ?_
  refine g_bipush K (nI 115) bp_115 128 dX4_init_126 rfl ?_
  refine gx_ast K hK hsh 129 (kd_new he46) dX4_init_128 rfl (fun I58 => ?_)
  refine g_dup K rfl 130 dX4_init_129 rfl ?_
  refine g_bipush K (nI 11) bp_11 132 dX4_init_130 rfl ?_
  refine g_bipush K (nI 32) bp_32 134 dX4_init_132 rfl ?_
  refine gx_ast K hK hsh 135 (kd_new he46) dX4_init_134 rfl (fun I59 => ?_)
  refine g_dup K rfl 136 dX4_init_135 rfl ?_
  refine g_bipush K (nI 12) bp_12 138 dX4_init_136 rfl ?_
  refine g_bipush K (nI 109) bp_109 140 dX4_init_138 rfl ?_
  refine gx_ast K hK hsh 141 (kd_new he46) dX4_init_140 rfl (fun I60 => ?_)
  refine g_dup K rfl 142 dX4_init_141 rfl ?_
  refine g_bipush K (nI 13) bp_13 144 dX4_init_142 rfl ?_
  refine g_bipush K (nI 101) bp_101 146 dX4_init_144 rfl ?_
  refine gx_ast K hK hsh 147 (kd_new he46) dX4_init_146 rfl (fun I61 => ?_)
  refine g_dup K rfl 148 dX4_init_147 rfl ?_
  refine g_bipush K (nI 14) bp_14 150 dX4_init_148 rfl ?_
  refine g_bipush K (nI 108) bp_108 152 dX4_init_150 rfl ?_
  refine gx_ast K hK hsh 153 (kd_new he46) dX4_init_152 rfl (fun I62 => ?_)
  refine g_dup K rfl 154 dX4_init_153 rfl ?_
  refine g_bipush K (nI 15) bp_15 156 dX4_init_154 rfl ?_
  refine g_bipush K (nI 116) bp_116 158 dX4_init_156 rfl ?_
  refine gx_ast K hK hsh 159 (kd_new he46) dX4_init_158 rfl (fun I63 => ?_)
  refine g_dup K rfl 160 dX4_init_159 rfl ?_
  refine g_bipush K (nI 16) bp_16 162 dX4_init_160 rfl ?_
  refine g_bipush K (nI 115) bp_115 164 dX4_init_162 rfl ?_
  refine gx_ast K hK hsh 165 (kd_new he46) dX4_init_164 rfl (fun I64 => ?_)
  refine g_dup K rfl 166 dX4_init_165 rfl ?_
  refine g_bipush K (nI 17) bp_17 168 dX4_init_166 rfl ?_
  refine g_bipush K (nI 32) bp_32 170 dX4_init_168 rfl ?_
  refine gx_ast K hK hsh 171 (kd_new he46) dX4_init_170 rfl (fun I65 => ?_)
  refine g_dup K rfl 172 dX4_init_171 rfl ?_
  refine g_bipush K (nI 18) bp_18 174 dX4_init_172 rfl ?_
  refine g_bipush K (nI 119) bp_119 176 dX4_init_174 rfl ?_
  refine gx_ast K hK hsh 177 (kd_new he46) dX4_init_176 rfl (fun I66 => ?_)
  refine g_dup K rfl 178 dX4_init_177 rfl ?_
  refine g_bipush K (nI 19) bp_19 180 dX4_init_178 rfl ?_
  refine g_bipush K (nI 104) bp_104 182 dX4_init_180 rfl ?_
  refine gx_ast K hK hsh 183 (kd_new he46) dX4_init_182 rfl (fun I67 => ?_)
  refine g_dup K rfl 184 dX4_init_183 rfl ?_
  refine g_bipush K (nI 20) bp_20 186 dX4_init_184 rfl ?_
  refine g_bipush K (nI 101) bp_101 188 dX4_init_186 rfl ?_
  refine gx_ast K hK hsh 189 (kd_new he46) dX4_init_188 rfl (fun I68 => ?_)
  refine g_dup K rfl 190 dX4_init_189 rfl ?_
  refine g_bipush K (nI 21) bp_21 192 dX4_init_190 rfl ?_
  refine g_bipush K (nI 110) bp_110 194 dX4_init_192 rfl ?_
  refine gx_ast K hK hsh 195 (kd_new he46) dX4_init_194 rfl (fun I69 => ?_)
  refine g_dup K rfl 196 dX4_init_195 rfl ?_
  refine g_bipush K (nI 22) bp_22 198 dX4_init_196 rfl ?_
  refine g_bipush K (nI 32) bp_32 200 dX4_init_198 rfl ?_
  refine gx_ast K hK hsh 201 (kd_new he46) dX4_init_200 rfl (fun I70 => ?_)
  refine g_dup K rfl 202 dX4_init_201 rfl ?_
  refine g_bipush K (nI 23) bp_23 204 dX4_init_202 rfl ?_
  refine g_bipush K (nI 111) bp_111 206 dX4_init_204 rfl ?_
  refine gx_ast K hK hsh 207 (kd_new he46) dX4_init_206 rfl (fun I71 => ?_)
  refine g_dup K rfl 208 dX4_init_207 rfl ?_
  refine g_bipush K (nI 24) bp_24 210 dX4_init_208 rfl ?_
  refine g_bipush K (nI 114) bp_114 212 dX4_init_210 rfl ?_
  refine gx_ast K hK hsh 213 (kd_new he46) dX4_init_212 rfl (fun I72 => ?_)
  refine g_dup K rfl 214 dX4_init_213 rfl ?_
  refine g_bipush K (nI 25) bp_25 216 dX4_init_214 rfl ?_
  refine g_bipush K (nI 32) bp_32 218 dX4_init_216 rfl ?_
  refine gx_ast K hK hsh 219 (kd_new he46) dX4_init_218 rfl (fun I73 => ?_)
  refine g_dup K rfl 220 dX4_init_219 rfl ?_
  refine g_bipush K (nI 26) bp_26 222 dX4_init_220 rfl ?_
  refine g_bipush K (nI 97) bp_97 224 dX4_init_222 rfl ?_
  refine gx_ast K hK hsh 225 (kd_new he46) dX4_init_224 rfl (fun I74 => ?_)
  refine g_dup K rfl 226 dX4_init_225 rfl ?_
  refine g_bipush K (nI 27) bp_27 228 dX4_init_226 rfl ?_
  refine g_bipush K (nI 110) bp_110 230 dX4_init_228 rfl ?_
  refine gx_ast K hK hsh 231 (kd_new he46) dX4_init_230 rfl (fun I75 => ?_)
  refine g_dup K rfl 232 dX4_init_231 rfl ?_
  refine g_bipush K (nI 28) bp_28 234 dX4_init_232 rfl ?_
  refine g_bipush K (nI 100) bp_100 236 dX4_init_234 rfl ?_
  refine gx_ast K hK hsh 237 (kd_new he46) dX4_init_236 rfl (fun I76 => ?_)
  refine g_dup K rfl 238 dX4_init_237 rfl ?_
  refine g_bipush K (nI 29) bp_29 240 dX4_init_238 rfl ?_
  refine g_bipush K (nI 32) bp_32 242 dX4_init_240 rfl ?_
  refine gx_ast K hK hsh 243 (kd_new he46) dX4_init_242 rfl (fun I77 => ?_)
  refine g_dup K rfl 244 dX4_init_243 rfl ?_
  refine g_bipush K (nI 30) bp_30 246 dX4_init_244 rfl ?_
  refine g_bipush K (nI 110) bp_110 248 dX4_init_246 rfl ?_
  refine gx_ast K hK hsh 249 (kd_new he46) dX4_init_248 rfl (fun I78 => ?_)
  refine g_dup K rfl 250 dX4_init_249 rfl ?_
  refine g_bipush K (nI 31) bp_31 252 dX4_init_250 rfl ?_
  refine g_bipush K (nI 111) bp_111 254 dX4_init_252 rfl ?_
  refine gx_ast K hK hsh 255 (kd_new he46) dX4_init_254 rfl (fun I79 => ?_)
  refine g_dup K rfl 256 dX4_init_255 rfl ?_
  refine g_bipush K (nI 32) bp_32 258 dX4_init_256 rfl ?_
  refine g_bipush K (nI 116) bp_116 260 dX4_init_258 rfl ?_
  refine gx_ast K hK hsh 261 (kd_new he46) dX4_init_260 rfl (fun I80 => ?_)
  refine g_dup K rfl 262 dX4_init_261 rfl ?_
  refine g_bipush K (nI 33) bp_33 264 dX4_init_262 rfl ?_
  refine g_bipush K (nI 32) bp_32 266 dX4_init_264 rfl ?_
  refine gx_ast K hK hsh 267 (kd_new he46) dX4_init_266 rfl (fun I81 => ?_)
  refine g_dup K rfl 268 dX4_init_267 rfl ?_
  refine g_bipush K (nI 34) bp_34 270 dX4_init_268 rfl ?_
  refine g_bipush K (nI 119) bp_119 272 dX4_init_270 rfl ?_
  refine gx_ast K hK hsh 273 (kd_new he46) dX4_init_272 rfl (fun I82 => ?_)
  refine g_dup K rfl 274 dX4_init_273 rfl ?_
  refine g_bipush K (nI 35) bp_35 276 dX4_init_274 rfl ?_
  refine g_bipush K (nI 97) bp_97 278 dX4_init_276 rfl ?_
  refine gx_ast K hK hsh 279 (kd_new he46) dX4_init_278 rfl (fun I83 => ?_)
  refine g_dup K rfl 280 dX4_init_279 rfl ?_
  refine g_bipush K (nI 36) bp_36 282 dX4_init_280 rfl ?_
  refine g_bipush K (nI 108) bp_108 284 dX4_init_282 rfl ?_
  refine gx_ast K hK hsh 285 (kd_new he46) dX4_init_284 rfl (fun I84 => ?_)
  refine g_dup K rfl 286 dX4_init_285 rfl ?_
  refine g_bipush K (nI 37) bp_37 288 dX4_init_286 rfl ?_
  refine g_bipush K (nI 108) bp_108 290 dX4_init_288 rfl ?_
  refine gx_ast K hK hsh 291 (kd_new he46) dX4_init_290 rfl (fun I85 => ?_)
  refine g_dup K rfl 292 dX4_init_291 rfl ?_
  refine g_bipush K (nI 38) bp_38 294 dX4_init_292 rfl ?_
  refine g_bipush K (nI 32) bp_32 296 dX4_init_294 rfl ?_
  refine gx_ast K hK hsh 297 (kd_new he46) dX4_init_296 rfl (fun I86 => ?_)
  refine g_dup K rfl 298 dX4_init_297 rfl ?_
  refine g_bipush K (nI 39) bp_39 300 dX4_init_298 rfl ?_
  refine g_bipush K (nI 115) bp_115 302 dX4_init_300 rfl ?_
  refine gx_ast K hK hsh 303 (kd_new he46) dX4_init_302 rfl (fun I87 => ?_)
  refine g_dup K rfl 304 dX4_init_303 rfl ?_
  refine g_bipush K (nI 40) bp_40 306 dX4_init_304 rfl ?_
  refine g_bipush K (nI 117) bp_117 308 dX4_init_306 rfl ?_
  refine gx_ast K hK hsh 309 (kd_new he46) dX4_init_308 rfl (fun I88 => ?_)
  refine g_dup K rfl 310 dX4_init_309 rfl ?_
  refine g_bipush K (nI 41) bp_41 312 dX4_init_310 rfl ?_
  refine g_bipush K (nI 109) bp_109 314 dX4_init_312 rfl ?_
  refine gx_ast K hK hsh 315 (kd_new he46) dX4_init_314 rfl (fun I89 => ?_)
  refine g_dup K rfl 316 dX4_init_315 rfl ?_
  refine g_bipush K (nI 42) bp_42 318 dX4_init_316 rfl ?_
  refine g_bipush K (nI 32) bp_32 320 dX4_init_318 rfl ?_
  refine gx_ast K hK hsh 321 (kd_new he46) dX4_init_320 rfl (fun I90 => ?_)
  refine g_dup K rfl 322 dX4_init_321 rfl ?_
  refine g_bipush K (nI 43) bp_43 324 dX4_init_322 rfl ?_
  refine g_bipush K (nI 97) bp_97 326 dX4_init_324 rfl ?_
  refine gx_ast K hK hsh 327 (kd_new he46) dX4_init_326 rfl (fun I91 => ?_)
  refine g_dup K rfl 328 dX4_init_327 rfl ?_
  refine g_bipush K (nI 44) bp_44 330 dX4_init_328 rfl ?_
  refine g_bipush K (nI 108) bp_108 332 dX4_init_330 rfl ?_
  refine gx_ast K hK hsh 333 (kd_new he46) dX4_init_332 rfl (fun I92 => ?_)
  refine g_dup K rfl 334 dX4_init_333 rfl ?_
  refine g_bipush K (nI 45) bp_45 336 dX4_init_334 rfl ?_
  refine g_bipush K (nI 109) bp_109 338 dX4_init_336 rfl ?_
  refine gx_ast K hK hsh 339 (kd_new he46) dX4_init_338 rfl (fun I93 => ?_)
  refine g_dup K rfl 340 dX4_init_339 rfl ?_
  refine g_bipush K (nI 46) bp_46 342 dX4_init_340 rfl ?_
  refine g_bipush K (nI 111) bp_111 344 dX4_init_342 rfl ?_
  refine gx_ast K hK hsh 345 (kd_new he46) dX4_init_344 rfl (fun I94 => ?_)
  refine g_dup K rfl 346 dX4_init_345 rfl ?_
  refine g_bipush K (nI 47) bp_47 348 dX4_init_346 rfl ?_
  refine g_bipush K (nI 110) bp_110 350 dX4_init_348 rfl ?_
  refine gx_ast K hK hsh 351 (kd_new he46) dX4_init_350 rfl (fun I95 => ?_)
  refine g_dup K rfl 352 dX4_init_351 rfl ?_
  refine g_bipush K (nI 48) bp_48 354 dX4_init_352 rfl ?_
  refine g_bipush K (nI 100) bp_100 356 dX4_init_354 rfl ?_
  refine gx_ast K hK hsh 357 (kd_new he46) dX4_init_356 rfl (fun I96 => ?_)
  refine g_dup K rfl 358 dX4_init_357 rfl ?_
  refine g_bipush K (nI 49) bp_49 360 dX4_init_358 rfl ?_
  refine g_bipush K (nI 115) bp_115 362 dX4_init_360 rfl ?_
  refine gx_ast K hK hsh 363 (kd_new he46) dX4_init_362 rfl (fun I97 => ?_)
  refine g_dup K rfl 364 dX4_init_363 rfl ?_
  refine g_bipush K (nI 50) bp_50 366 dX4_init_364 rfl ?_
  refine g_bipush K (nI 32) bp_32 368 dX4_init_366 rfl ?_
  refine gx_ast K hK hsh 369 (kd_new he46) dX4_init_368 rfl (fun I98 => ?_)
  refine g_dup K rfl 370 dX4_init_369 rfl ?_
  refine g_bipush K (nI 51) bp_51 372 dX4_init_370 rfl ?_
  refine g_bipush K (nI 116) bp_116 374 dX4_init_372 rfl ?_
  refine gx_ast K hK hsh 375 (kd_new he46) dX4_init_374 rfl (fun I99 => ?_)
  refine g_dup K rfl 376 dX4_init_375 rfl ?_
  refine g_bipush K (nI 52) bp_52 378 dX4_init_376 rfl ?_
  refine g_bipush K (nI 101) bp_101 380 dX4_init_378 rfl ?_
  refine gx_ast K hK hsh 381 (kd_new he46) dX4_init_380 rfl (fun I100 => ?_)
  refine g_dup K rfl 382 dX4_init_381 rfl ?_
  refine g_bipush K (nI 53) bp_53 384 dX4_init_382 rfl ?_
  refine g_bipush K (nI 101) bp_101 386 dX4_init_384 rfl ?_
  refine gx_ast K hK hsh 387 (kd_new he46) dX4_init_386 rfl (fun I101 => ?_)
  refine g_dup K rfl 388 dX4_init_387 rfl ?_
  refine g_bipush K (nI 54) bp_54 390 dX4_init_388 rfl ?_
  refine g_bipush K (nI 116) bp_116 392 dX4_init_390 rfl ?_
  refine gx_ast K hK hsh 393 (kd_new he46) dX4_init_392 rfl (fun I102 => ?_)
  refine g_dup K rfl 394 dX4_init_393 rfl ?_
  refine g_bipush K (nI 55) bp_55 396 dX4_init_394 rfl ?_
  refine g_bipush K (nI 104) bp_104 398 dX4_init_396 rfl ?_
  refine gx_ast K hK hsh 399 (kd_new he46) dX4_init_398 rfl (fun I103 => ?_)
  refine g_dup K rfl 400 dX4_init_399 rfl ?_
  refine g_bipush K (nI 56) bp_56 402 dX4_init_400 rfl ?_
  refine g_bipush K (nI 32) bp_32 404 dX4_init_402 rfl ?_
  refine gx_ast K hK hsh 405 (kd_new he46) dX4_init_404 rfl (fun I104 => ?_)
  refine g_dup K rfl 406 dX4_init_405 rfl ?_
  refine g_bipush K (nI 57) bp_57 408 dX4_init_406 rfl ?_
  refine g_bipush K (nI 104) bp_104 410 dX4_init_408 rfl ?_
  refine gx_ast K hK hsh 411 (kd_new he46) dX4_init_410 rfl (fun I105 => ?_)
  refine g_dup K rfl 412 dX4_init_411 rfl ?_
  refine g_bipush K (nI 58) bp_58 414 dX4_init_412 rfl ?_
  refine g_bipush K (nI 97) bp_97 416 dX4_init_414 rfl ?_
  refine gx_ast K hK hsh 417 (kd_new he46) dX4_init_416 rfl (fun I106 => ?_)
  refine g_dup K rfl 418 dX4_init_417 rfl ?_
  refine g_bipush K (nI 59) bp_59 420 dX4_init_418 rfl ?_
  refine g_bipush K (nI 114) bp_114 422 dX4_init_420 rfl ?_
  refine gx_ast K hK hsh 423 (kd_new he46) dX4_init_422 rfl (fun I107 => ?_)
  refine g_dup K rfl 424 dX4_init_423 rfl ?_
  refine g_bipush K (nI 60) bp_60 426 dX4_init_424 rfl ?_
  refine g_bipush K (nI 100) bp_100 428 dX4_init_426 rfl ?_
  refine gx_ast K hK hsh 429 (kd_new he46) dX4_init_428 rfl (fun I108 => ?_)
  refine g_dup K rfl 430 dX4_init_429 rfl ?_
  refine g_bipush K (nI 61) bp_61 432 dX4_init_430 rfl ?_
  refine g_bipush K (nI 32) bp_32 434 dX4_init_432 rfl ?_
  refine gx_ast K hK hsh 435 (kd_new he46) dX4_init_434 rfl (fun I109 => ?_)
  refine g_dup K rfl 436 dX4_init_435 rfl ?_
  refine g_bipush K (nI 62) bp_62 438 dX4_init_436 rfl ?_
  refine g_bipush K (nI 105) bp_105 440 dX4_init_438 rfl ?_
  refine gx_ast K hK hsh 441 (kd_new he46) dX4_init_440 rfl (fun I110 => ?_)
  refine g_dup K rfl 442 dX4_init_441 rfl ?_
  refine g_bipush K (nI 63) bp_63 444 dX4_init_442 rfl ?_
  refine g_bipush K (nI 99) bp_99 446 dX4_init_444 rfl ?_
  refine gx_ast K hK hsh 447 (kd_new he46) dX4_init_446 rfl (fun I111 => ?_)
  refine g_dup K rfl 448 dX4_init_447 rfl ?_
  refine g_bipush K (nI 64) bp_64 450 dX4_init_448 rfl ?_
  refine g_bipush K (nI 105) bp_105 452 dX4_init_450 rfl ?_
  refine gx_ast K hK hsh 453 (kd_new he46) dX4_init_452 rfl (fun I112 => ?_)
  refine g_dup K rfl 454 dX4_init_453 rfl ?_
  refine g_bipush K (nI 65) bp_65 456 dX4_init_454 rfl ?_
  refine g_bipush K (nI 110) bp_110 458 dX4_init_456 rfl ?_
  refine gx_ast K hK hsh 459 (kd_new he46) dX4_init_458 rfl (fun I113 => ?_)
  refine g_dup K rfl 460 dX4_init_459 rfl ?_
  refine g_bipush K (nI 66) bp_66 462 dX4_init_460 rfl ?_
  refine g_bipush K (nI 103) bp_103 464 dX4_init_462 rfl ?_
  refine gx_ast K hK hsh 465 (kd_new he46) dX4_init_464 rfl (fun I114 => ?_)
  refine g_dup K rfl 466 dX4_init_465 rfl ?_
  refine g_bipush K (nI 67) bp_67 468 dX4_init_466 rfl ?_
  refine g_bipush K (nI 32) bp_32 470 dX4_init_468 rfl ?_
  refine gx_ast K hK hsh 471 (kd_new he46) dX4_init_470 rfl (fun I115 => ?_)
  refine g_dup K rfl 472 dX4_init_471 rfl ?_
  refine g_bipush K (nI 68) bp_68 474 dX4_init_472 rfl ?_
  refine g_bipush K (nI 108) bp_108 476 dX4_init_474 rfl ?_
  refine gx_ast K hK hsh 477 (kd_new he46) dX4_init_476 rfl (fun I116 => ?_)
  refine g_dup K rfl 478 dX4_init_477 rfl ?_
  refine g_bipush K (nI 69) bp_69 480 dX4_init_478 rfl ?_
  refine g_bipush K (nI 111) bp_111 482 dX4_init_480 rfl ?_
  refine gx_ast K hK hsh 483 (kd_new he46) dX4_init_482 rfl (fun I117 => ?_)
  refine g_dup K rfl 484 dX4_init_483 rfl ?_
  refine g_bipush K (nI 70) bp_70 486 dX4_init_484 rfl ?_
  refine g_bipush K (nI 100) bp_100 488 dX4_init_486 rfl ?_
  refine gx_ast K hK hsh 489 (kd_new he46) dX4_init_488 rfl (fun I118 => ?_)
  refine g_dup K rfl 490 dX4_init_489 rfl ?_
  refine g_bipush K (nI 71) bp_71 492 dX4_init_490 rfl ?_
  refine g_bipush K (nI 103) bp_103 494 dX4_init_492 rfl ?_
  refine gx_ast K hK hsh 495 (kd_new he46) dX4_init_494 rfl (fun I119 => ?_)
  refine g_dup K rfl 496 dX4_init_495 rfl ?_
  refine g_bipush K (nI 72) bp_72 498 dX4_init_496 rfl ?_
  refine g_bipush K (nI 101) bp_101 500 dX4_init_498 rfl ?_
  refine gx_ast K hK hsh 501 (kd_new he46) dX4_init_500 rfl (fun I120 => ?_)
  refine g_dup K rfl 502 dX4_init_501 rfl ?_
  refine g_bipush K (nI 73) bp_73 504 dX4_init_502 rfl ?_
  refine g_bipush K (nI 114) bp_114 506 dX4_init_504 rfl ?_
  refine gx_ast K hK hsh 507 (kd_new he46) dX4_init_506 rfl (fun I121 => ?_)
  refine g_dup K rfl 508 dX4_init_507 rfl ?_
  refine g_bipush K (nI 74) bp_74 510 dX4_init_508 rfl ?_
  refine g_bipush K (nI 115) bp_115 512 dX4_init_510 rfl ?_
  refine gx_ast K hK hsh 513 (kd_new he46) dX4_init_512 rfl (fun I122 => ?_)
  refine g_dup K rfl 514 dX4_init_513 rfl ?_
  refine g_bipush K (nI 75) bp_75 516 dX4_init_514 rfl ?_
  refine g_bipush K (nI 32) bp_32 518 dX4_init_516 rfl ?_
  refine gx_ast K hK hsh 519 (kd_new he46) dX4_init_518 rfl (fun I123 => ?_)
  refine g_dup K rfl 520 dX4_init_519 rfl ?_
  refine g_bipush K (nI 76) bp_76 522 dX4_init_520 rfl ?_
  refine g_bipush K (nI 100) bp_100 524 dX4_init_522 rfl ?_
  refine gx_ast K hK hsh 525 (kd_new he46) dX4_init_524 rfl (fun I124 => ?_)
  refine g_dup K rfl 526 dX4_init_525 rfl ?_
  refine g_bipush K (nI 77) bp_77 528 dX4_init_526 rfl ?_
  refine g_bipush K (nI 111) bp_111 530 dX4_init_528 rfl ?_
  refine gx_ast K hK hsh 531 (kd_new he46) dX4_init_530 rfl (fun I125 => ?_)
  refine g_dup K rfl 532 dX4_init_531 rfl ?_
  refine g_bipush K (nI 78) bp_78 534 dX4_init_532 rfl ?_
  refine g_bipush K (nI 111) bp_111 536 dX4_init_534 rfl ?_
  refine gx_ast K hK hsh 537 (kd_new he46) dX4_init_536 rfl (fun I126 => ?_)
  refine g_dup K rfl 538 dX4_init_537 rfl ?_
  refine g_bipush K (nI 79) bp_79 540 dX4_init_538 rfl ?_
  refine g_bipush K (nI 114) bp_114 542 dX4_init_540 rfl ?_
  refine gx_ast K hK hsh 543 (kd_new he46) dX4_init_542 rfl (fun I127 => ?_)
  refine g_dup K rfl 544 dX4_init_543 rfl ?_
  refine g_bipush K (nI 80) bp_80 546 dX4_init_544 rfl ?_
  refine g_bipush K (nI 32) bp_32 548 dX4_init_546 rfl ?_
  refine gx_ast K hK hsh 549 (kd_new he46) dX4_init_548 rfl (fun I128 => ?_)
  refine g_dup K rfl 550 dX4_init_549 rfl ?_
  refine g_bipush K (nI 81) bp_81 552 dX4_init_550 rfl ?_
  refine g_bipush K (nI 97) bp_97 554 dX4_init_552 rfl ?_
  refine gx_ast K hK hsh 555 (kd_new he46) dX4_init_554 rfl (fun I129 => ?_)
  refine g_dup K rfl 556 dX4_init_555 rfl ?_
  refine g_bipush K (nI 82) bp_82 558 dX4_init_556 rfl ?_
  refine g_bipush K (nI 103) bp_103 560 dX4_init_558 rfl ?_
  refine gx_ast K hK hsh 561 (kd_new he46) dX4_init_560 rfl (fun I130 => ?_)
  refine g_dup K rfl 562 dX4_init_561 rfl ?_
  refine g_bipush K (nI 83) bp_83 564 dX4_init_562 rfl ?_
  refine g_bipush K (nI 101) bp_101 566 dX4_init_564 rfl ?_
  refine gx_ast K hK hsh 567 (kd_new he46) dX4_init_566 rfl (fun I131 => ?_)
  refine g_dup K rfl 568 dX4_init_567 rfl ?_
  refine g_bipush K (nI 84) bp_84 570 dX4_init_568 rfl ?_
  refine g_bipush K (nI 32) bp_32 572 dX4_init_570 rfl ?_
  refine gx_ast K hK hsh 573 (kd_new he46) dX4_init_572 rfl (fun I132 => ?_)
  refine g_dup K rfl 574 dX4_init_573 rfl ?_
  refine g_bipush K (nI 85) bp_85 576 dX4_init_574 rfl ?_
  refine g_bipush K (nI 114) bp_114 578 dX4_init_576 rfl ?_
  refine gx_ast K hK hsh 579 (kd_new he46) dX4_init_578 rfl (fun I133 => ?_)
  refine g_dup K rfl 580 dX4_init_579 rfl ?_
  refine g_bipush K (nI 86) bp_86 582 dX4_init_580 rfl ?_
  refine g_bipush K (nI 97) bp_97 584 dX4_init_582 rfl ?_
  refine gx_ast K hK hsh 585 (kd_new he46) dX4_init_584 rfl (fun I134 => ?_)
  refine g_dup K rfl 586 dX4_init_585 rfl ?_
  refine g_bipush K (nI 87) bp_87 588 dX4_init_586 rfl ?_
  refine g_bipush K (nI 105) bp_105 590 dX4_init_588 rfl ?_
  refine gx_ast K hK hsh 591 (kd_new he46) dX4_init_590 rfl (fun I135 => ?_)
  refine g_dup K rfl 592 dX4_init_591 rfl ?_
  refine g_bipush K (nI 88) bp_88 594 dX4_init_592 rfl ?_
  refine g_bipush K (nI 110) bp_110 596 dX4_init_594 rfl ?_
  refine gx_ast K hK hsh 597 (kd_new he46) dX4_init_596 rfl (fun I136 => ?_)
  refine g_dup K rfl 598 dX4_init_597 rfl ?_
  refine g_bipush K (nI 89) bp_89 600 dX4_init_598 rfl ?_
  refine g_bipush K (nI 32) bp_32 602 dX4_init_600 rfl ?_
  refine gx_ast K hK hsh 603 (kd_new he46) dX4_init_602 rfl (fun I137 => ?_)
  refine g_dup K rfl 604 dX4_init_603 rfl ?_
  refine g_bipush K (nI 90) bp_90 606 dX4_init_604 rfl ?_
  refine g_bipush K (nI 102) bp_102 608 dX4_init_606 rfl ?_
  refine gx_ast K hK hsh 609 (kd_new he46) dX4_init_608 rfl (fun I138 => ?_)
  refine g_dup K rfl 610 dX4_init_609 rfl ?_
  refine g_bipush K (nI 91) bp_91 612 dX4_init_610 rfl ?_
  refine g_bipush K (nI 114) bp_114 614 dX4_init_612 rfl ?_
  refine gx_ast K hK hsh 615 (kd_new he46) dX4_init_614 rfl (fun I139 => ?_)
  refine g_dup K rfl 616 dX4_init_615 rfl ?_
  refine g_bipush K (nI 92) bp_92 618 dX4_init_616 rfl ?_
  refine g_bipush K (nI 111) bp_111 620 dX4_init_618 rfl ?_
  refine gx_ast K hK hsh 621 (kd_new he46) dX4_init_620 rfl (fun I140 => ?_)
  refine g_dup K rfl 622 dX4_init_621 rfl ?_
  refine g_bipush K (nI 93) bp_93 624 dX4_init_622 rfl ?_
  refine g_bipush K (nI 115) bp_115 626 dX4_init_624 rfl ?_
  refine gx_ast K hK hsh 627 (kd_new he46) dX4_init_626 rfl (fun I141 => ?_)
  refine g_dup K rfl 628 dX4_init_627 rfl ?_
  refine g_bipush K (nI 94) bp_94 630 dX4_init_628 rfl ?_
  refine g_bipush K (nI 116) bp_116 632 dX4_init_630 rfl ?_
  refine gx_ast K hK hsh 633 (kd_new he46) dX4_init_632 rfl (fun I142 => ?_)
  refine g_dup K rfl 634 dX4_init_633 rfl ?_
  refine g_bipush K (nI 95) bp_95 636 dX4_init_634 rfl ?_
  refine g_bipush K (nI 32) bp_32 638 dX4_init_636 rfl ?_
  refine gx_ast K hK hsh 639 (kd_new he46) dX4_init_638 rfl (fun I143 => ?_)
  refine g_dup K rfl 640 dX4_init_639 rfl ?_
  refine g_bipush K (nI 96) bp_96 642 dX4_init_640 rfl ?_
  refine g_bipush K (nI 113) bp_113 644 dX4_init_642 rfl ?_
  refine gx_ast K hK hsh 645 (kd_new he46) dX4_init_644 rfl (fun I144 => ?_)
  refine g_dup K rfl 646 dX4_init_645 rfl ?_
  refine g_bipush K (nI 97) bp_97 648 dX4_init_646 rfl ?_
  refine g_bipush K (nI 117) bp_117 650 dX4_init_648 rfl ?_
  refine gx_ast K hK hsh 651 (kd_new he46) dX4_init_650 rfl (fun I145 => ?_)
  refine g_dup K rfl 652 dX4_init_651 rfl ?_
  refine g_bipush K (nI 98) bp_98 654 dX4_init_652 rfl ?_
  refine g_bipush K (nI 97) bp_97 656 dX4_init_654 rfl ?_
  refine gx_ast K hK hsh 657 (kd_new he46) dX4_init_656 rfl (fun I146 => ?_)
  refine g_dup K rfl 658 dX4_init_657 rfl ?_
  refine g_bipush K (nI 99) bp_99 660 dX4_init_658 rfl ?_
  refine g_bipush K (nI 114) bp_114 662 dX4_init_660 rfl ?_
  refine gx_ast K hK hsh 663 (kd_new he46) dX4_init_662 rfl (fun I147 => ?_)
  refine g_dup K rfl 664 dX4_init_663 rfl ?_
  refine g_bipush K (nI 100) bp_100 666 dX4_init_664 rfl ?_
  refine g_bipush K (nI 116) bp_116 668 dX4_init_666 rfl ?_
  refine gx_ast K hK hsh 669 (kd_new he46) dX4_init_668 rfl (fun I148 => ?_)
  refine g_dup K rfl 670 dX4_init_669 rfl ?_
  refine g_bipush K (nI 101) bp_101 672 dX4_init_670 rfl ?_
  refine g_bipush K (nI 101) bp_101 674 dX4_init_672 rfl ?_
  refine gx_ast K hK hsh 675 (kd_new he46) dX4_init_674 rfl (fun I149 => ?_)
  refine g_dup K rfl 676 dX4_init_675 rfl ?_
  refine g_bipush K (nI 102) bp_102 678 dX4_init_676 rfl ?_
  refine g_bipush K (nI 114) bp_114 680 dX4_init_678 rfl ?_
  refine gx_ast K hK hsh 681 (kd_new he46) dX4_init_680 rfl (fun I150 => ?_)
  refine g_dup K rfl 682 dX4_init_681 rfl ?_
  refine g_bipush K (nI 103) bp_103 684 dX4_init_682 rfl ?_
  refine g_bipush K (nI 32) bp_32 686 dX4_init_684 rfl ?_
  refine gx_ast K hK hsh 687 (kd_new he46) dX4_init_686 rfl (fun I151 => ?_)
  refine g_dup K rfl 688 dX4_init_687 rfl ?_
  refine g_bipush K (nI 104) bp_104 690 dX4_init_688 rfl ?_
  refine g_bipush K (nI 105) bp_105 692 dX4_init_690 rfl ?_
  refine gx_ast K hK hsh 693 (kd_new he46) dX4_init_692 rfl (fun I152 => ?_)
  refine g_dup K rfl 694 dX4_init_693 rfl ?_
  refine g_bipush K (nI 105) bp_105 696 dX4_init_694 rfl ?_
  refine g_bipush K (nI 110) bp_110 698 dX4_init_696 rfl ?_
  refine gx_ast K hK hsh 699 (kd_new he46) dX4_init_698 rfl (fun I153 => ?_)
  refine g_dup K rfl 700 dX4_init_699 rfl ?_
  refine g_bipush K (nI 106) bp_106 702 dX4_init_700 rfl ?_
  refine g_bipush K (nI 32) bp_32 704 dX4_init_702 rfl ?_
  refine gx_ast K hK hsh 705 (kd_new he46) dX4_init_704 rfl (fun I154 => ?_)
  refine g_dup K rfl 706 dX4_init_705 rfl ?_
  refine g_bipush K (nI 107) bp_107 708 dX4_init_706 rfl ?_
  refine g_bipush K (nI 116) bp_116 710 dX4_init_708 rfl ?_
  refine gx_ast K hK hsh 711 (kd_new he46) dX4_init_710 rfl (fun I155 => ?_)
  refine g_dup K rfl 712 dX4_init_711 rfl ?_
  refine g_bipush K (nI 108) bp_108 714 dX4_init_712 rfl ?_
  refine g_bipush K (nI 104) bp_104 716 dX4_init_714 rfl ?_
  refine gx_ast K hK hsh 717 (kd_new he46) dX4_init_716 rfl (fun I156 => ?_)
  refine g_dup K rfl 718 dX4_init_717 rfl ?_
  refine g_bipush K (nI 109) bp_109 720 dX4_init_718 rfl ?_
  refine g_bipush K (nI 97) bp_97 722 dX4_init_720 rfl ?_
  refine gx_ast K hK hsh 723 (kd_new he46) dX4_init_722 rfl (fun I157 => ?_)
  refine g_dup K rfl 724 dX4_init_723 rfl ?_
  refine g_bipush K (nI 110) bp_110 726 dX4_init_724 rfl ?_
  refine g_bipush K (nI 119) bp_119 728 dX4_init_726 rfl ?_
  refine gx_ast K hK hsh 729 (kd_new he46) dX4_init_728 rfl (fun I158 => ?_)
  refine g_dup K rfl 730 dX4_init_729 rfl ?_
  refine g_bipush K (nI 111) bp_111 732 dX4_init_730 rfl ?_
  refine g_bipush K (nI 32) bp_32 734 dX4_init_732 rfl ?_
  refine gx_ast K hK hsh 735 (kd_new he46) dX4_init_734 rfl (fun I159 => ?_)
  refine g_dup K rfl 736 dX4_init_735 rfl ?_
  refine g_bipush K (nI 112) bp_112 738 dX4_init_736 rfl ?_
  refine g_bipush K (nI 105) bp_105 740 dX4_init_738 rfl ?_
  refine gx_ast K hK hsh 741 (kd_new he46) dX4_init_740 rfl (fun I160 => ?_)
  refine g_dup K rfl 742 dX4_init_741 rfl ?_
  refine g_bipush K (nI 113) bp_113 744 dX4_init_742 rfl ?_
  refine g_bipush K (nI 99) bp_99 746 dX4_init_744 rfl ?_
  refine gx_ast K hK hsh 747 (kd_new he46) dX4_init_746 rfl (fun I161 => ?_)
  refine g_dup K rfl 748 dX4_init_747 rfl ?_
  refine g_bipush K (nI 114) bp_114 750 dX4_init_748 rfl ?_
  refine g_bipush K (nI 101) bp_101 752 dX4_init_750 rfl ?_
  refine gx_ast K hK hsh 753 (kd_new he46) dX4_init_752 rfl (fun I162 => ?_)
  refine g_dup K rfl 754 dX4_init_753 rfl ?_
  refine g_bipush K (nI 115) bp_115 756 dX4_init_754 rfl ?_
  refine g_bipush K (nI 32) bp_32 758 dX4_init_756 rfl ?_
  refine gx_ast K hK hsh 759 (kd_new he46) dX4_init_758 rfl (fun I163 => ?_)
  refine g_dup K rfl 760 dX4_init_759 rfl ?_
  refine g_bipush K (nI 116) bp_116 762 dX4_init_760 rfl ?_
  refine g_bipush K (nI 98) bp_98 764 dX4_init_762 rfl ?_
  refine gx_ast K hK hsh 765 (kd_new he46) dX4_init_764 rfl (fun I164 => ?_)
  refine g_dup K rfl 766 dX4_init_765 rfl ?_
  refine g_bipush K (nI 117) bp_117 768 dX4_init_766 rfl ?_
  refine g_bipush K (nI 97) bp_97 770 dX4_init_768 rfl ?_
  refine gx_ast K hK hsh 771 (kd_new he46) dX4_init_770 rfl (fun I165 => ?_)
  refine g_dup K rfl 772 dX4_init_771 rfl ?_
  refine g_bipush K (nI 118) bp_118 774 dX4_init_772 rfl ?_
  refine g_bipush K (nI 107) bp_107 776 dX4_init_774 rfl ?_
  refine gx_ast K hK hsh 777 (kd_new he46) dX4_init_776 rfl (fun I166 => ?_)
  refine g_dup K rfl 778 dX4_init_777 rfl ?_
  refine g_bipush K (nI 119) bp_119 780 dX4_init_778 rfl ?_
  refine g_bipush K (nI 101) bp_101 782 dX4_init_780 rfl ?_
  refine gx_ast K hK hsh 783 (kd_new he46) dX4_init_782 rfl (fun I167 => ?_)
  refine g_dup K rfl 784 dX4_init_783 rfl ?_
  refine g_bipush K (nI 120) bp_120 786 dX4_init_784 rfl ?_
  refine g_bipush K (nI 32) bp_32 788 dX4_init_786 rfl ?_
  refine gx_ast K hK hsh 789 (kd_new he46) dX4_init_788 rfl (fun I168 => ?_)
  refine g_dup K rfl 790 dX4_init_789 rfl ?_
  refine g_bipush K (nI 121) bp_121 792 dX4_init_790 rfl ?_
  refine g_bipush K (nI 119) bp_119 794 dX4_init_792 rfl ?_
  refine gx_ast K hK hsh 795 (kd_new he46) dX4_init_794 rfl (fun I169 => ?_)
  refine g_dup K rfl 796 dX4_init_795 rfl ?_
  refine g_bipush K (nI 122) bp_122 798 dX4_init_796 rfl ?_
  refine g_bipush K (nI 101) bp_101 800 dX4_init_798 rfl ?_
  refine gx_ast K hK hsh 801 (kd_new he46) dX4_init_800 rfl (fun I170 => ?_)
  refine g_dup K rfl 802 dX4_init_801 rfl ?_
  refine g_bipush K (nI 123) bp_123 804 dX4_init_802 rfl ?_
  refine g_bipush K (nI 100) bp_100 806 dX4_init_804 rfl ?_
  refine gx_ast K hK hsh 807 (kd_new he46) dX4_init_806 rfl (fun I171 => ?_)
  refine g_dup K rfl 808 dX4_init_807 rfl ?_
  refine g_bipush K (nI 124) bp_124 810 dX4_init_808 rfl ?_
  refine g_bipush K (nI 32) bp_32 812 dX4_init_810 rfl ?_
  refine gx_ast K hK hsh 813 (kd_new he46) dX4_init_812 rfl (fun I172 => ?_)
  refine g_dup K rfl 814 dX4_init_813 rfl ?_
  refine g_bipush K (nI 125) bp_125 816 dX4_init_814 rfl ?_
  refine g_bipush K (nI 114) bp_114 818 dX4_init_816 rfl ?_
  refine gx_ast K hK hsh 819 (kd_new he46) dX4_init_818 rfl (fun I173 => ?_)
  refine g_dup K rfl 820 dX4_init_819 rfl ?_
  refine g_bipush K (nI 126) bp_126 822 dX4_init_820 rfl ?_
  refine g_bipush K (nI 97) bp_97 824 dX4_init_822 rfl ?_
  refine gx_ast K hK hsh 825 (kd_new he46) dX4_init_824 rfl (fun I174 => ?_)
  refine g_dup K rfl 826 dX4_init_825 rfl ?_
  refine g_bipush K (nI 127) bp_127 828 dX4_init_826 rfl ?_
  refine g_bipush K (nI 122) bp_122 830 dX4_init_828 rfl ?_
  refine gx_ast K hK hsh 831 (kd_new he46) dX4_init_830 rfl (fun I175 => ?_)
  refine g_dup K rfl 832 dX4_init_831 rfl ?_
  refine g_sipush K (nI 128) sp_128 835 dX4_init_832 rfl ?_
  refine g_bipush K (nI 101) bp_101 837 dX4_init_835 rfl ?_
  refine gx_ast K hK hsh 838 (kd_new he46) dX4_init_837 rfl (fun I176 => ?_)
  refine g_dup K rfl 839 dX4_init_838 rfl ?_
  refine g_sipush K (nI 129) sp_129 842 dX4_init_839 rfl ?_
  refine g_bipush K (nI 32) bp_32 844 dX4_init_842 rfl ?_
  refine gx_ast K hK hsh 845 (kd_new he46) dX4_init_844 rfl (fun I177 => ?_)
  refine g_dup K rfl 846 dX4_init_845 rfl ?_
  refine g_sipush K (nI 130) sp_130 849 dX4_init_846 rfl ?_
  refine g_bipush K (nI 104) bp_104 851 dX4_init_849 rfl ?_
  refine gx_ast K hK hsh 852 (kd_new he46) dX4_init_851 rfl (fun I178 => ?_)
  refine g_dup K rfl 853 dX4_init_852 rfl ?_
  refine g_sipush K (nI 131) sp_131 856 dX4_init_853 rfl ?_
  refine g_bipush K (nI 111) bp_111 858 dX4_init_856 rfl ?_
  refine gx_ast K hK hsh 859 (kd_new he46) dX4_init_858 rfl (fun I179 => ?_)
  refine g_dup K rfl 860 dX4_init_859 rfl ?_
  refine g_sipush K (nI 132) sp_132 863 dX4_init_860 rfl ?_
  refine g_bipush K (nI 117) bp_117 865 dX4_init_863 rfl ?_
  refine gx_ast K hK hsh 866 (kd_new he46) dX4_init_865 rfl (fun I180 => ?_)
  refine g_dup K rfl 867 dX4_init_866 rfl ?_
  refine g_sipush K (nI 133) sp_133 870 dX4_init_867 rfl ?_
  refine g_bipush K (nI 115) bp_115 872 dX4_init_870 rfl ?_
  refine gx_ast K hK hsh 873 (kd_new he46) dX4_init_872 rfl (fun I181 => ?_)
  refine g_dup K rfl 874 dX4_init_873 rfl ?_
  refine g_sipush K (nI 134) sp_134 877 dX4_init_874 rfl ?_
  refine g_bipush K (nI 101) bp_101 879 dX4_init_877 rfl ?_
  refine gx_ast K hK hsh 880 (kd_new he46) dX4_init_879 rfl (fun I182 => ?_)
  refine g_dup K rfl 881 dX4_init_880 rfl ?_
  refine g_sipush K (nI 135) sp_135 884 dX4_init_881 rfl ?_
  refine g_bipush K (nI 32) bp_32 886 dX4_init_884 rfl ?_
  refine gx_ast K hK hsh 887 (kd_new he46) dX4_init_886 rfl (fun I183 => ?_)
  refine g_dup K rfl 888 dX4_init_887 rfl ?_
  refine g_sipush K (nI 136) sp_136 891 dX4_init_888 rfl ?_
  refine g_bipush K (nI 110) bp_110 893 dX4_init_891 rfl ?_
  refine gx_ast K hK hsh 894 (kd_new he46) dX4_init_893 rfl (fun I184 => ?_)
  refine g_dup K rfl 895 dX4_init_894 rfl ?_
  refine g_sipush K (nI 137) sp_137 898 dX4_init_895 rfl ?_
  refine g_bipush K (nI 101) bp_101 900 dX4_init_898 rfl ?_
  refine gx_ast K hK hsh 901 (kd_new he46) dX4_init_900 rfl (fun I185 => ?_)
  refine g_dup K rfl 902 dX4_init_901 rfl ?_
  refine g_sipush K (nI 138) sp_138 905 dX4_init_902 rfl ?_
  refine g_bipush K (nI 120) bp_120 907 dX4_init_905 rfl ?_
  refine gx_ast K hK hsh 908 (kd_new he46) dX4_init_907 rfl (fun I186 => ?_)
  refine g_dup K rfl 909 dX4_init_908 rfl ?_
  refine g_sipush K (nI 139) sp_139 912 dX4_init_909 rfl ?_
  refine g_bipush K (nI 116) bp_116 914 dX4_init_912 rfl ?_
  refine gx_ast K hK hsh 915 (kd_new he46) dX4_init_914 rfl (fun I187 => ?_)
  refine g_dup K rfl 916 dX4_init_915 rfl ?_
  refine g_sipush K (nI 140) sp_140 919 dX4_init_916 rfl ?_
  refine g_bipush K (nI 32) bp_32 921 dX4_init_919 rfl ?_
  refine gx_ast K hK hsh 922 (kd_new he46) dX4_init_921 rfl (fun I188 => ?_)
  refine ga_putpF K hK hsh 16 (ty := .array (.int)) 925 in_X4 tyX4 tyX4_ok nmX4 hk47 rfl rfl (Nat.le_of_ble_eq_true rfl) rfl (by decide) q1501 rfl hname rfl (by decide +kernel) rfl rfl (Nat.le_of_ble_eq_true rfl) dX4_init_922 rfl (fun P189 _ => ?_)
  refine g_aloadn K 0 rfl rfl 926 dX4_init_925 rfl ?_
  refine g_iconst K (nI 2) ic_2 927 dX4_init_926 rfl ?_
  refine ga_newi K hK hsh 929 dX4_init_927 rfl q220 (fun len191 hl192 hn190 hsh => ?_)
  refine g_nmA (fun sz193 sl193 kd193 P193 I193 _ _ he193 _ _ => ?_)
  replace hsh : Shp z kd193 := by rw [he193]; exact hsh
  have hk194 := kd_keep hn190 he193 (Nat.le_of_ble_eq_true rfl) hk47
  refine ga_putpF K hK hsh 17 (ty := .array (.int)) 932 in_X4 tyX4 tyX4_ok nmX4 hk194 rfl rfl (Nat.le_of_ble_eq_true rfl) rfl (by decide) q1502 rfl hname rfl (by decide +kernel) rfl rfl (Nat.le_of_ble_eq_true rfl) dX4_init_929 rfl (fun P195 _ => ?_)
  refine g_aloadn K 0 rfl rfl 933 dX4_init_932 rfl ?_
  refine g_bipush K (nI 48) bp_48 935 dX4_init_933 rfl ?_
  refine ga_newi K hK hsh 937 dX4_init_935 rfl q220 (fun len197 hl198 hn196 hsh => ?_)
  refine g_nmA (fun sz199 sl199 kd199 P199 I199 _ _ he199 _ _ => ?_)
  replace hsh : Shp z kd199 := by rw [he199]; exact hsh
  have hk200 := kd_keep hn196 he199 (Nat.le_of_ble_eq_true rfl) hk194
  refine ga_putpF K hK hsh 18 (ty := .array (.int)) 940 in_X4 tyX4 tyX4_ok nmX4 hk200 rfl rfl (Nat.le_of_ble_eq_true rfl) rfl (by decide) q1503 rfl hname rfl (by decide +kernel) rfl rfl (Nat.le_of_ble_eq_true rfl) dX4_init_937 rfl (fun P201 _ => ?_)
  refine g_aloadn K 0 rfl rfl 941 dX4_init_940 rfl ?_
  refine g_bipush K (nI 48) bp_48 943 dX4_init_941 rfl ?_
  refine ga_newi K hK hsh 945 dX4_init_943 rfl q220 (fun len203 hl204 hn202 hsh => ?_)
  refine g_nmA (fun sz205 sl205 kd205 P205 I205 _ _ he205 _ _ => ?_)
  replace hsh : Shp z kd205 := by rw [he205]; exact hsh
  have hk206 := kd_keep hn202 he205 (Nat.le_of_ble_eq_true rfl) hk200
  refine ga_putpF K hK hsh 19 (ty := .array (.int)) 948 in_X4 tyX4 tyX4_ok nmX4 hk206 rfl rfl (Nat.le_of_ble_eq_true rfl) rfl (by decide) q1504 rfl hname rfl (by decide +kernel) rfl rfl (Nat.le_of_ble_eq_true rfl) dX4_init_945 rfl (fun P207 _ => ?_)
  refine g_aloadn K 0 rfl rfl 949 dX4_init_948 rfl ?_
  refine g_bipush K (nI 48) bp_48 951 dX4_init_949 rfl ?_
  refine ga_newi K hK hsh 953 dX4_init_951 rfl q220 (fun len209 hl210 hn208 hsh => ?_)
  refine g_nmA (fun sz211 sl211 kd211 P211 I211 _ _ he211 _ _ => ?_)
  replace hsh : Shp z kd211 := by rw [he211]; exact hsh
  have hk212 := kd_keep hn208 he211 (Nat.le_of_ble_eq_true rfl) hk206
  refine ga_putpF K hK hsh 20 (ty := .array (.int)) 956 in_X4 tyX4 tyX4_ok nmX4 hk212 rfl rfl (Nat.le_of_ble_eq_true rfl) rfl (by decide) q1505 rfl hname rfl (by decide +kernel) rfl rfl (Nat.le_of_ble_eq_true rfl) dX4_init_953 rfl (fun P213 _ => ?_)
  refine g_aloadn K 0 rfl rfl 957 dX4_init_956 rfl ?_
  refine g_bipush K (nI 48) bp_48 959 dX4_init_957 rfl ?_
  refine ga_newi K hK hsh 961 dX4_init_959 rfl q220 (fun len215 hl216 hn214 hsh => ?_)
  refine g_nmA (fun sz217 sl217 kd217 P217 I217 _ _ he217 _ _ => ?_)
  replace hsh : Shp z kd217 := by rw [he217]; exact hsh
  have hk218 := kd_keep hn214 he217 (Nat.le_of_ble_eq_true rfl) hk212
  refine ga_putpF K hK hsh 21 (ty := .array (.int)) 964 in_X4 tyX4 tyX4_ok nmX4 hk218 rfl rfl (Nat.le_of_ble_eq_true rfl) rfl (by decide) q1506 rfl hname rfl (by decide +kernel) rfl rfl (Nat.le_of_ble_eq_true rfl) dX4_init_961 rfl (fun P219 _ => ?_)
  refine g_aloadn K 0 rfl rfl 965 dX4_init_964 rfl ?_
  refine g_sipush K (nI 1200) sp_1200 968 dX4_init_965 rfl ?_
  refine ga_newi K hK hsh 970 dX4_init_968 rfl q220 (fun len221 hl222 hn220 hsh => ?_)
  refine g_nmA (fun sz223 sl223 kd223 P223 I223 _ _ he223 _ _ => ?_)
  replace hsh : Shp z kd223 := by rw [he223]; exact hsh
  have hk224 := kd_keep hn220 he223 (Nat.le_of_ble_eq_true rfl) hk218
  refine ga_putpF K hK hsh 22 (ty := .array (.int)) 973 in_X4 tyX4 tyX4_ok nmX4 hk224 rfl rfl (Nat.le_of_ble_eq_true rfl) rfl (by decide) q1507 rfl hname rfl (by decide +kernel) rfl rfl (Nat.le_of_ble_eq_true rfl) dX4_init_970 rfl (fun P225 _ => ?_)
  refine g_aloadn K 0 rfl rfl 974 dX4_init_973 rfl ?_
  refine g_sipush K (nI 1200) sp_1200 977 dX4_init_974 rfl ?_
  refine ga_newi K hK hsh 979 dX4_init_977 rfl q220 (fun len227 hl228 hn226 hsh => ?_)
  refine g_nmA (fun sz229 sl229 kd229 P229 I229 _ _ he229 _ _ => ?_)
  replace hsh : Shp z kd229 := by rw [he229]; exact hsh
  have hk230 := kd_keep hn226 he229 (Nat.le_of_ble_eq_true rfl) hk224
  refine ga_putpF K hK hsh 23 (ty := .array (.int)) 982 in_X4 tyX4 tyX4_ok nmX4 hk230 rfl rfl (Nat.le_of_ble_eq_true rfl) rfl (by decide) q1508 rfl hname rfl (by decide +kernel) rfl rfl (Nat.le_of_ble_eq_true rfl) dX4_init_979 rfl (fun P231 _ => ?_)
  refine g_aloadn K 0 rfl rfl 983 dX4_init_982 rfl ?_
  refine g_bipush K (nI 40) bp_40 985 dX4_init_983 rfl ?_
  refine ga_newi K hK hsh 987 dX4_init_985 rfl q220 (fun len233 hl234 hn232 hsh => ?_)
  refine g_nmA (fun sz235 sl235 kd235 P235 I235 _ _ he235 _ _ => ?_)
  replace hsh : Shp z kd235 := by rw [he235]; exact hsh
  have hk236 := kd_keep hn232 he235 (Nat.le_of_ble_eq_true rfl) hk230
  refine ga_putpF K hK hsh 27 (ty := .array (.int)) 990 in_X4 tyX4 tyX4_ok nmX4 hk236 rfl rfl (Nat.le_of_ble_eq_true rfl) rfl (by decide) q1512 rfl hname rfl (by decide +kernel) rfl rfl (Nat.le_of_ble_eq_true rfl) dX4_init_987 rfl (fun P237 _ => ?_)
  refine g_aloadn K 0 rfl rfl 991 dX4_init_990 rfl ?_
  refine g_iconst K (-1 : Int32) ic_m1 992 dX4_init_991 rfl ?_
  refine gx_put K hK hsh 32 (ty := .int) 995 in_X4 tyX4 tyX4_ok nmX4 hk236 rfl rfl (Nat.le_of_ble_eq_true rfl) rfl (by decide) (Or.inl q1517) rfl (by decide +kernel) rfl rfl (Nat.le_of_ble_eq_true rfl) dX4_init_992 rfl (fun I238 _ => ?_)
  refine g_aloadn K 0 rfl rfl 996 dX4_init_995 rfl ?_
  refine g_bipush K (nI 96) bp_96 998 dX4_init_996 rfl ?_
  refine ga_newi K hK hsh 1000 dX4_init_998 rfl q220 (fun len240 hl241 hn239 hsh => ?_)
  refine g_nmA (fun sz242 sl242 kd242 P242 I242 _ _ he242 _ _ => ?_)
  replace hsh : Shp z kd242 := by rw [he242]; exact hsh
  have hk243 := kd_keep hn239 he242 (Nat.le_of_ble_eq_true rfl) hk236
  refine ga_putpF K hK hsh 34 (ty := .array (.int)) 1003 in_X4 tyX4 tyX4_ok nmX4 hk243 rfl rfl (Nat.le_of_ble_eq_true rfl) rfl (by decide) q1519 rfl hname rfl (by decide +kernel) rfl rfl (Nat.le_of_ble_eq_true rfl) dX4_init_1000 rfl (fun P244 _ => ?_)
  refine g_aloadn K 0 rfl rfl 1004 dX4_init_1003 rfl ?_
  refine g_sipush K (nI 160) sp_160 1007 dX4_init_1004 rfl ?_
  refine ga_newi K hK hsh 1009 dX4_init_1007 rfl q220 (fun len246 hl247 hn245 hsh => ?_)
  refine g_nmA (fun sz248 sl248 kd248 P248 I248 _ _ he248 _ _ => ?_)
  replace hsh : Shp z kd248 := by rw [he248]; exact hsh
  have hk249 := kd_keep hn245 he248 (Nat.le_of_ble_eq_true rfl) hk243
  refine ga_putpF K hK hsh 36 (ty := .array (.int)) 1012 in_X4 tyX4 tyX4_ok nmX4 hk249 rfl rfl (Nat.le_of_ble_eq_true rfl) rfl (by decide) q1521 rfl hname rfl (by decide +kernel) rfl rfl (Nat.le_of_ble_eq_true rfl) dX4_init_1009 rfl (fun P250 _ => ?_)
  refine g_aloadn K 0 rfl rfl 1013 dX4_init_1012 rfl ?_
  refine g_bipush K (nI 24) bp_24 1015 dX4_init_1013 rfl ?_
  refine ga_newi K hK hsh 1017 dX4_init_1015 rfl q220 (fun len252 hl253 hn251 hsh => ?_)
  refine g_nmA (fun sz254 sl254 kd254 P254 I254 _ _ he254 _ _ => ?_)
  replace hsh : Shp z kd254 := by rw [he254]; exact hsh
  have hk255 := kd_keep hn251 he254 (Nat.le_of_ble_eq_true rfl) hk249
  refine ga_putpF K hK hsh 38 (ty := .array (.int)) 1020 in_X4 tyX4 tyX4_ok nmX4 hk255 rfl rfl (Nat.le_of_ble_eq_true rfl) rfl (by decide) q1523 rfl hname rfl (by decide +kernel) rfl rfl (Nat.le_of_ble_eq_true rfl) dX4_init_1017 rfl (fun P256 _ => ?_)
  refine g_aloadn K 0 rfl rfl 1021 dX4_init_1020 rfl ?_
  refine g_bipush K (nI 12) bp_12 1023 dX4_init_1021 rfl ?_
  refine ga_newi K hK hsh 1025 dX4_init_1023 rfl q220 (fun len258 hl259 hn257 hsh => ?_)
  refine g_nmA (fun sz260 sl260 kd260 P260 I260 _ _ he260 _ _ => ?_)
  replace hsh : Shp z kd260 := by rw [he260]; exact hsh
  have hk261 := kd_keep hn257 he260 (Nat.le_of_ble_eq_true rfl) hk255
  refine ga_putpF K hK hsh 39 (ty := .array (.int)) 1028 in_X4 tyX4 tyX4_ok nmX4 hk261 rfl rfl (Nat.le_of_ble_eq_true rfl) rfl (by decide) q1524 rfl hname rfl (by decide +kernel) rfl rfl (Nat.le_of_ble_eq_true rfl) dX4_init_1025 rfl (fun P262 _ => ?_)
  refine g_aloadn K 0 rfl rfl 1029 dX4_init_1028 rfl ?_
  refine g_sipush K (nI 420) sp_420 1032 dX4_init_1029 rfl ?_
  refine ga_newi K hK hsh 1034 dX4_init_1032 rfl q220 (fun len264 hl265 hn263 hsh => ?_)
  refine g_nmA (fun sz266 sl266 kd266 P266 I266 _ _ he266 _ _ => ?_)
  replace hsh : Shp z kd266 := by rw [he266]; exact hsh
  have hk267 := kd_keep hn263 he266 (Nat.le_of_ble_eq_true rfl) hk261
  refine ga_putpF K hK hsh 40 (ty := .array (.int)) 1037 in_X4 tyX4 tyX4_ok nmX4 hk267 rfl rfl (Nat.le_of_ble_eq_true rfl) rfl (by decide) q1525 rfl hname rfl (by decide +kernel) rfl rfl (Nat.le_of_ble_eq_true rfl) dX4_init_1034 rfl (fun P268 _ => ?_)
  refine g_aloadn K 0 rfl rfl 1038 dX4_init_1037 rfl ?_
  refine g_bipush K (nI 12) bp_12 1040 dX4_init_1038 rfl ?_
  refine ga_newi K hK hsh 1042 dX4_init_1040 rfl q220 (fun len270 hl271 hn269 hsh => ?_)
  refine g_nmA (fun sz272 sl272 kd272 P272 I272 _ _ he272 _ _ => ?_)
  replace hsh : Shp z kd272 := by rw [he272]; exact hsh
  have hk273 := kd_keep hn269 he272 (Nat.le_of_ble_eq_true rfl) hk267
  refine ga_putpF K hK hsh 41 (ty := .array (.int)) 1045 in_X4 tyX4 tyX4_ok nmX4 hk273 rfl rfl (Nat.le_of_ble_eq_true rfl) rfl (by decide) q1526 rfl hname rfl (by decide +kernel) rfl rfl (Nat.le_of_ble_eq_true rfl) dX4_init_1042 rfl (fun P274 _ => ?_)
  refine g_aloadn K 0 rfl rfl 1046 dX4_init_1045 rfl ?_
  refine g_bipush K (nI 9) bp_9 1048 dX4_init_1046 rfl ?_
  refine ga_newi K hK hsh 1050 dX4_init_1048 rfl q220 (fun len276 hl277 hn275 hsh => ?_)
  refine g_nmA (fun sz278 sl278 kd278 P278 I278 _ _ he278 _ _ => ?_)
  replace hsh : Shp z kd278 := by rw [he278]; exact hsh
  have hk279 := kd_keep hn275 he278 (Nat.le_of_ble_eq_true rfl) hk273
  refine ga_putpF K hK hsh 43 (ty := .array (.int)) 1053 in_X4 tyX4 tyX4_ok nmX4 hk279 rfl rfl (Nat.le_of_ble_eq_true rfl) rfl (by decide) q1528 rfl hname rfl (by decide +kernel) rfl rfl (Nat.le_of_ble_eq_true rfl) dX4_init_1050 rfl (fun P280 _ => ?_)
  refine g_aloadn K 0 rfl rfl 1054 dX4_init_1053 rfl ?_
  refine g_bipush K (nI 100) bp_100 1056 dX4_init_1054 rfl ?_
  refine ga_newi K hK hsh 1058 dX4_init_1056 rfl q220 (fun len282 hl283 hn281 hsh => ?_)
  refine g_nmA (fun sz284 sl284 kd284 P284 I284 _ _ he284 _ _ => ?_)
  replace hsh : Shp z kd284 := by rw [he284]; exact hsh
  have hk285 := kd_keep hn281 he284 (Nat.le_of_ble_eq_true rfl) hk279
  refine ga_putpF K hK hsh 44 (ty := .array (.int)) 1061 in_X4 tyX4 tyX4_ok nmX4 hk285 rfl rfl (Nat.le_of_ble_eq_true rfl) rfl (by decide) q1529 rfl hname rfl (by decide +kernel) rfl rfl (Nat.le_of_ble_eq_true rfl) dX4_init_1058 rfl (fun P286 _ => ?_)
  refine g_aloadn K 0 rfl rfl 1062 dX4_init_1061 rfl ?_
  refine g_bipush K (nI 8) bp_8 1064 dX4_init_1062 rfl ?_
  refine ga_newi K hK hsh 1066 dX4_init_1064 rfl q220 (fun len288 hl289 hn287 hsh => ?_)
  refine g_nmA (fun sz290 sl290 kd290 P290 I290 _ _ he290 _ _ => ?_)
  replace hsh : Shp z kd290 := by rw [he290]; exact hsh
  have hk291 := kd_keep hn287 he290 (Nat.le_of_ble_eq_true rfl) hk285
  refine ga_putpF K hK hsh 46 (ty := .array (.int)) 1069 in_X4 tyX4 tyX4_ok nmX4 hk291 rfl rfl (Nat.le_of_ble_eq_true rfl) rfl (by decide) q1531 rfl hname rfl (by decide +kernel) rfl rfl (Nat.le_of_ble_eq_true rfl) dX4_init_1066 rfl (fun P292 _ => ?_)
  refine g_aloadn K 0 rfl rfl 1070 dX4_init_1069 rfl ?_
  refine g_sipush K (nI 256) sp_256 1073 dX4_init_1070 rfl ?_
  refine ga_newi K hK hsh 1075 dX4_init_1073 rfl q220 (fun len294 hl295 hn293 hsh => ?_)
  refine g_nmA (fun sz296 sl296 kd296 P296 I296 _ _ he296 _ _ => ?_)
  replace hsh : Shp z kd296 := by rw [he296]; exact hsh
  have hk297 := kd_keep hn293 he296 (Nat.le_of_ble_eq_true rfl) hk291
  refine ga_putpF K hK hsh 47 (ty := .array (.int)) 1078 in_X4 tyX4 tyX4_ok nmX4 hk297 rfl rfl (Nat.le_of_ble_eq_true rfl) rfl (by decide) q1532 rfl hname rfl (by decide +kernel) rfl rfl (Nat.le_of_ble_eq_true rfl) dX4_init_1075 rfl (fun P298 _ => ?_)
  refine g_aloadn K 0 rfl rfl 1079 dX4_init_1078 rfl ?_
  refine g_bipush K (nI 8) bp_8 1081 dX4_init_1079 rfl ?_
  refine ga_newi K hK hsh 1083 dX4_init_1081 rfl q220 (fun len300 hl301 hn299 hsh => ?_)
  refine g_nmA (fun sz302 sl302 kd302 P302 I302 _ _ he302 _ _ => ?_)
  replace hsh : Shp z kd302 := by rw [he302]; exact hsh
  have hk303 := kd_keep hn299 he302 (Nat.le_of_ble_eq_true rfl) hk297
  refine ga_putpF K hK hsh 48 (ty := .array (.int)) 1086 in_X4 tyX4 tyX4_ok nmX4 hk303 rfl rfl (Nat.le_of_ble_eq_true rfl) rfl (by decide) q1533 rfl hname rfl (by decide +kernel) rfl rfl (Nat.le_of_ble_eq_true rfl) dX4_init_1083 rfl (fun P304 _ => ?_)
  refine g_aloadn K 0 rfl rfl 1087 dX4_init_1086 rfl ?_
  refine g_iconst K (nI 5) ic_5 1088 dX4_init_1087 rfl ?_
  refine ga_newi K hK hsh 1090 dX4_init_1088 rfl q220 (fun len306 hl307 hn305 hsh => ?_)
  refine g_nmA (fun sz308 sl308 kd308 P308 I308 _ _ he308 _ _ => ?_)
  replace hsh : Shp z kd308 := by rw [he308]; exact hsh
  have hk309 := kd_keep hn305 he308 (Nat.le_of_ble_eq_true rfl) hk303
  refine ga_putpF K hK hsh 50 (ty := .array (.int)) 1093 in_X4 tyX4 tyX4_ok nmX4 hk309 rfl rfl (Nat.le_of_ble_eq_true rfl) rfl (by decide) q1535 rfl hname rfl (by decide +kernel) rfl rfl (Nat.le_of_ble_eq_true rfl) dX4_init_1090 rfl (fun P310 _ => ?_)
  refine g_aloadn K 0 rfl rfl 1094 dX4_init_1093 rfl ?_
  refine g_bipush K (nI 8) bp_8 1096 dX4_init_1094 rfl ?_
  refine ga_newi K hK hsh 1098 dX4_init_1096 rfl q220 (fun len312 hl313 hn311 hsh => ?_)
  refine g_nmA (fun sz314 sl314 kd314 P314 I314 _ _ he314 _ _ => ?_)
  replace hsh : Shp z kd314 := by rw [he314]; exact hsh
  have hk315 := kd_keep hn311 he314 (Nat.le_of_ble_eq_true rfl) hk309
  refine ga_putpF K hK hsh 52 (ty := .array (.int)) 1101 in_X4 tyX4 tyX4_ok nmX4 hk315 rfl rfl (Nat.le_of_ble_eq_true rfl) rfl (by decide) q1537 rfl hname rfl (by decide +kernel) rfl rfl (Nat.le_of_ble_eq_true rfl) dX4_init_1098 rfl (fun P316 _ => ?_)
  refine g_aloadn K 0 rfl rfl 1102 dX4_init_1101 rfl ?_
  refine g_bipush K (nI 8) bp_8 1104 dX4_init_1102 rfl ?_
  refine ga_newi K hK hsh 1106 dX4_init_1104 rfl q220 (fun len318 hl319 hn317 hsh => ?_)
  refine g_nmA (fun sz320 sl320 kd320 P320 I320 _ _ he320 _ _ => ?_)
  replace hsh : Shp z kd320 := by rw [he320]; exact hsh
  have hk321 := kd_keep hn317 he320 (Nat.le_of_ble_eq_true rfl) hk315
  refine ga_putpF K hK hsh 53 (ty := .array (.int)) 1109 in_X4 tyX4 tyX4_ok nmX4 hk321 rfl rfl (Nat.le_of_ble_eq_true rfl) rfl (by decide) q1538 rfl hname rfl (by decide +kernel) rfl rfl (Nat.le_of_ble_eq_true rfl) dX4_init_1106 rfl (fun P322 _ => ?_)
  refine g_aloadn K 0 rfl rfl 1110 dX4_init_1109 rfl ?_
  refine g_bipush K (nI 16) bp_16 1112 dX4_init_1110 rfl ?_
  refine ga_newi K hK hsh 1114 dX4_init_1112 rfl q220 (fun len324 hl325 hn323 hsh => ?_)
  refine g_nmA (fun sz326 sl326 kd326 P326 I326 _ _ he326 _ _ => ?_)
  replace hsh : Shp z kd326 := by rw [he326]; exact hsh
  have hk327 := kd_keep hn323 he326 (Nat.le_of_ble_eq_true rfl) hk321
  refine ga_putpF K hK hsh 55 (ty := .array (.int)) 1117 in_X4 tyX4 tyX4_ok nmX4 hk327 rfl rfl (Nat.le_of_ble_eq_true rfl) rfl (by decide) q1540 rfl hname rfl (by decide +kernel) rfl rfl (Nat.le_of_ble_eq_true rfl) dX4_init_1114 rfl (fun P328 _ => ?_)
  refine g_aloadn K 0 rfl rfl 1118 dX4_init_1117 rfl ?_
  refine g_sipush K (nI 1681) sp_1681 1121 dX4_init_1118 rfl ?_
  refine ga_newi K hK hsh 1123 dX4_init_1121 rfl q220 (fun len330 hl331 hn329 hsh => ?_)
  refine g_nmA (fun sz332 sl332 kd332 P332 I332 _ _ he332 _ _ => ?_)
  replace hsh : Shp z kd332 := by rw [he332]; exact hsh
  have hk333 := kd_keep hn329 he332 (Nat.le_of_ble_eq_true rfl) hk327
  refine ga_putpF K hK hsh 56 (ty := .array (.int)) 1126 in_X4 tyX4 tyX4_ok nmX4 hk333 rfl rfl (Nat.le_of_ble_eq_true rfl) rfl (by decide) q1541 rfl hname rfl (by decide +kernel) rfl rfl (Nat.le_of_ble_eq_true rfl) dX4_init_1123 rfl (fun P334 _ => ?_)
  refine g_aloadn K 0 rfl rfl 1127 dX4_init_1126 rfl ?_
  refine g_bipush K (nI 6) bp_6 1129 dX4_init_1127 rfl ?_
  refine ga_newi K hK hsh 1131 dX4_init_1129 rfl q220 (fun len336 hl337 hn335 hsh => ?_)
  refine g_nmA (fun sz338 sl338 kd338 P338 I338 _ _ he338 _ _ => ?_)
  replace hsh : Shp z kd338 := by rw [he338]; exact hsh
  have hk339 := kd_keep hn335 he338 (Nat.le_of_ble_eq_true rfl) hk333
  refine ga_putpF K hK hsh 58 (ty := .array (.int)) 1134 in_X4 tyX4 tyX4_ok nmX4 hk339 rfl rfl (Nat.le_of_ble_eq_true rfl) rfl (by decide) q1543 rfl hname rfl (by decide +kernel) rfl rfl (Nat.le_of_ble_eq_true rfl) dX4_init_1131 rfl (fun P340 _ => ?_)
  refine g_aloadn K 0 rfl rfl 1135 dX4_init_1134 rfl ?_
  refine g_bipush K (nI 6) bp_6 1137 dX4_init_1135 rfl ?_
  refine ga_newi K hK hsh 1139 dX4_init_1137 rfl q220 (fun len342 hl343 hn341 hsh => ?_)
  refine g_nmA (fun sz344 sl344 kd344 P344 I344 _ _ he344 _ _ => ?_)
  replace hsh : Shp z kd344 := by rw [he344]; exact hsh
  have hk345 := kd_keep hn341 he344 (Nat.le_of_ble_eq_true rfl) hk339
  refine ga_putpF K hK hsh 59 (ty := .array (.int)) 1142 in_X4 tyX4 tyX4_ok nmX4 hk345 rfl rfl (Nat.le_of_ble_eq_true rfl) rfl (by decide) q1544 rfl hname rfl (by decide +kernel) rfl rfl (Nat.le_of_ble_eq_true rfl) dX4_init_1139 rfl (fun P346 _ => ?_)
  refine g_aloadn K 0 rfl rfl 1143 dX4_init_1142 rfl ?_
  refine g_bipush K (nI 6) bp_6 1145 dX4_init_1143 rfl ?_
  refine ga_newi K hK hsh 1147 dX4_init_1145 rfl q220 (fun len348 hl349 hn347 hsh => ?_)
  refine g_nmA (fun sz350 sl350 kd350 P350 I350 _ _ he350 _ _ => ?_)
  replace hsh : Shp z kd350 := by rw [he350]; exact hsh
  have hk351 := kd_keep hn347 he350 (Nat.le_of_ble_eq_true rfl) hk345
  refine ga_putpF K hK hsh 60 (ty := .array (.int)) 1150 in_X4 tyX4 tyX4_ok nmX4 hk351 rfl rfl (Nat.le_of_ble_eq_true rfl) rfl (by decide) q1545 rfl hname rfl (by decide +kernel) rfl rfl (Nat.le_of_ble_eq_true rfl) dX4_init_1147 rfl (fun P352 _ => ?_)
  refine g_aloadn K 0 rfl rfl 1151 dX4_init_1150 rfl ?_
  refine g_bipush K (nI 6) bp_6 1153 dX4_init_1151 rfl ?_
  refine ga_newi K hK hsh 1155 dX4_init_1153 rfl q220 (fun len354 hl355 hn353 hsh => ?_)
  refine g_nmA (fun sz356 sl356 kd356 P356 I356 _ _ he356 _ _ => ?_)
  replace hsh : Shp z kd356 := by rw [he356]; exact hsh
  have hk357 := kd_keep hn353 he356 (Nat.le_of_ble_eq_true rfl) hk351
  refine ga_putpF K hK hsh 61 (ty := .array (.int)) 1158 in_X4 tyX4 tyX4_ok nmX4 hk357 rfl rfl (Nat.le_of_ble_eq_true rfl) rfl (by decide) q1546 rfl hname rfl (by decide +kernel) rfl rfl (Nat.le_of_ble_eq_true rfl) dX4_init_1155 rfl (fun P358 _ => ?_)
  refine g_aloadn K 0 rfl rfl 1159 dX4_init_1158 rfl ?_
  refine g_bipush K (nI 12) bp_12 1161 dX4_init_1159 rfl ?_
  refine ga_newi K hK hsh 1163 dX4_init_1161 rfl q220 (fun len360 hl361 hn359 hsh => ?_)
  refine g_nmA (fun sz362 sl362 kd362 P362 I362 _ _ he362 _ _ => ?_)
  replace hsh : Shp z kd362 := by rw [he362]; exact hsh
  have hk363 := kd_keep hn359 he362 (Nat.le_of_ble_eq_true rfl) hk357
  refine ga_putpF K hK hsh 63 (ty := .array (.int)) 1166 in_X4 tyX4 tyX4_ok nmX4 hk363 rfl rfl (Nat.le_of_ble_eq_true rfl) rfl (by decide) q1548 rfl hname rfl (by decide +kernel) rfl rfl (Nat.le_of_ble_eq_true rfl) dX4_init_1163 rfl (fun P364 _ => ?_)
  refine g_aloadn K 0 rfl rfl 1167 dX4_init_1166 rfl ?_
  refine g_bipush K (nI 21) bp_21 1169 dX4_init_1167 rfl ?_
  refine ga_newi K hK hsh 1171 dX4_init_1169 rfl q220 (fun len366 hl367 hn365 hsh => ?_)
  refine g_nmA (fun sz368 sl368 kd368 P368 I368 _ _ he368 _ _ => ?_)
  replace hsh : Shp z kd368 := by rw [he368]; exact hsh
  have hk369 := kd_keep hn365 he368 (Nat.le_of_ble_eq_true rfl) hk363
  refine ga_putpF K hK hsh 64 (ty := .array (.int)) 1174 in_X4 tyX4 tyX4_ok nmX4 hk369 rfl rfl (Nat.le_of_ble_eq_true rfl) rfl (by decide) q1549 rfl hname rfl (by decide +kernel) rfl rfl (Nat.le_of_ble_eq_true rfl) dX4_init_1171 rfl (fun P370 _ => ?_)
  refine g_aloadn K 0 rfl rfl 1175 dX4_init_1174 rfl ?_
  refine g_bipush K (nI 21) bp_21 1177 dX4_init_1175 rfl ?_
  refine ga_newi K hK hsh 1179 dX4_init_1177 rfl q220 (fun len372 hl373 hn371 hsh => ?_)
  refine g_nmA (fun sz374 sl374 kd374 P374 I374 _ _ he374 _ _ => ?_)
  replace hsh : Shp z kd374 := by rw [he374]; exact hsh
  have hk375 := kd_keep hn371 he374 (Nat.le_of_ble_eq_true rfl) hk369
  refine ga_putpF K hK hsh 65 (ty := .array (.int)) 1182 in_X4 tyX4 tyX4_ok nmX4 hk375 rfl rfl (Nat.le_of_ble_eq_true rfl) rfl (by decide) q1550 rfl hname rfl (by decide +kernel) rfl rfl (Nat.le_of_ble_eq_true rfl) dX4_init_1179 rfl (fun P376 _ => ?_)
  refine g_aloadn K 0 rfl rfl 1183 dX4_init_1182 rfl ?_
  refine g_bipush K (nI 8) bp_8 1185 dX4_init_1183 rfl ?_
  refine ga_newi K hK hsh 1187 dX4_init_1185 rfl q220 (fun len378 hl379 hn377 hsh => ?_)
  refine g_nmA (fun sz380 sl380 kd380 P380 I380 _ _ he380 _ _ => ?_)
  replace hsh : Shp z kd380 := by rw [he380]; exact hsh
  have hk381 := kd_keep hn377 he380 (Nat.le_of_ble_eq_true rfl) hk375
  refine ga_putpF K hK hsh 67 (ty := .array (.int)) 1190 in_X4 tyX4 tyX4_ok nmX4 hk381 rfl rfl (Nat.le_of_ble_eq_true rfl) rfl (by decide) q1552 rfl hname rfl (by decide +kernel) rfl rfl (Nat.le_of_ble_eq_true rfl) dX4_init_1187 rfl (fun P382 _ => ?_)
  refine g_aloadn K 0 rfl rfl 1191 dX4_init_1190 rfl ?_
  refine g_bipush K (nI 8) bp_8 1193 dX4_init_1191 rfl ?_
  refine ga_newi K hK hsh 1195 dX4_init_1193 rfl q220 (fun len384 hl385 hn383 hsh => ?_)
  refine g_nmA (fun sz386 sl386 kd386 P386 I386 _ _ he386 _ _ => ?_)
  replace hsh : Shp z kd386 := by rw [he386]; exact hsh
  have hk387 := kd_keep hn383 he386 (Nat.le_of_ble_eq_true rfl) hk381
  refine ga_putpF K hK hsh 68 (ty := .array (.int)) 1198 in_X4 tyX4 tyX4_ok nmX4 hk387 rfl rfl (Nat.le_of_ble_eq_true rfl) rfl (by decide) q1553 rfl hname rfl (by decide +kernel) rfl rfl (Nat.le_of_ble_eq_true rfl) dX4_init_1195 rfl (fun P388 _ => ?_)
  refine g_aloadn K 0 rfl rfl 1199 dX4_init_1198 rfl ?_
  refine g_sipush K (nI 16807) sp_16807 1202 dX4_init_1199 rfl ?_
  refine ga_newi K hK hsh 1204 dX4_init_1202 rfl q220 (fun len390 hl391 hn389 hsh => ?_)
  refine g_nmA (fun sz392 sl392 kd392 P392 I392 _ _ he392 _ _ => ?_)
  replace hsh : Shp z kd392 := by rw [he392]; exact hsh
  have hk393 := kd_keep hn389 he392 (Nat.le_of_ble_eq_true rfl) hk387
  refine ga_putpF K hK hsh 69 (ty := .array (.int)) 1207 in_X4 tyX4 tyX4_ok nmX4 hk393 rfl rfl (Nat.le_of_ble_eq_true rfl) rfl (by decide) q1554 rfl hname rfl (by decide +kernel) rfl rfl (Nat.le_of_ble_eq_true rfl) dX4_init_1204 rfl (fun P394 _ => ?_)
  refine g_aloadn K 0 rfl rfl 1208 dX4_init_1207 rfl ?_
  refine g_iconst K (nI 5) ic_5 1209 dX4_init_1208 rfl ?_
  refine ga_newi K hK hsh 1211 dX4_init_1209 rfl q220 (fun len396 hl397 hn395 hsh => ?_)
  refine g_nmA (fun sz398 sl398 kd398 P398 I398 _ _ he398 _ _ => ?_)
  replace hsh : Shp z kd398 := by rw [he398]; exact hsh
  have hk399 := kd_keep hn395 he398 (Nat.le_of_ble_eq_true rfl) hk393
  refine ga_putpF K hK hsh 70 (ty := .array (.int)) 1214 in_X4 tyX4 tyX4_ok nmX4 hk399 rfl rfl (Nat.le_of_ble_eq_true rfl) rfl (by decide) q1555 rfl hname rfl (by decide +kernel) rfl rfl (Nat.le_of_ble_eq_true rfl) dX4_init_1211 rfl (fun P400 _ => ?_)
  refine g_aloadn K 0 rfl rfl 1215 dX4_init_1214 rfl ?_
  refine g_sipush K (nI 2400) sp_2400 1218 dX4_init_1215 rfl ?_
  refine ga_newi K hK hsh 1220 dX4_init_1218 rfl q220 (fun len402 hl403 hn401 hsh => ?_)
  refine g_nmA (fun sz404 sl404 kd404 P404 I404 _ _ he404 _ _ => ?_)
  replace hsh : Shp z kd404 := by rw [he404]; exact hsh
  have hk405 := kd_keep hn401 he404 (Nat.le_of_ble_eq_true rfl) hk399
  refine ga_putpF K hK hsh 74 (ty := .array (.int)) 1223 in_X4 tyX4 tyX4_ok nmX4 hk405 rfl rfl (Nat.le_of_ble_eq_true rfl) rfl (by decide) q1559 rfl hname rfl (by decide +kernel) rfl rfl (Nat.le_of_ble_eq_true rfl) dX4_init_1220 rfl (fun P406 _ => ?_)
  exact ga_vret K hr hlk dX4_init_1223 rfl
