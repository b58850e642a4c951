/-! THE CODE: a table a method, its blocks by their first place (printed by wip gen.py out of the names files). -/
def o_dead (i : Instr) : tp_Op := (i, fun _ _ _ => none)
def kJ0_fill : Nat := 0
def kJ0_copyOf : Nat := 1
def kJ0_copyOf_2 : Nat := 2
def kJ0_fill_2 : Nat := 3
def kJ0_rangeCheck : Nat := 4
def kJ11_init : Nat := 5
def kJ12_init : Nat := 6
def kJ13_valueOf : Nat := 7
def kJ13_init : Nat := 8
def kJ13_intValue : Nat := 9
def kJ14_newLength : Nat := 10
def kJ15_checkIndex : Nat := 11
def kJ2_init : Nat := 12
def kJ3_init : Nat := 13
def kJ4_init : Nat := 14
def kJ4_add : Nat := 15
def kJ4_add_2 : Nat := 16
def kJ4_grow : Nat := 17
def kJ4_grow_2 : Nat := 18
def kJ4_isEmpty : Nat := 19
def kJ4_size : Nat := 20
def kJ4_get : Nat := 21
def kJ4_elementData : Nat := 22
def kJ5_length : Nat := 23
def kJ5_coder : Nat := 24
def kJ5_charAt : Nat := 25
def kJ5_isLatin1 : Nat := 26
def kJ5_checkIndex : Nat := 27
def kJ6_charAt : Nat := 28
def kJ7_checkIndex : Nat := 29
def kL_law : Nat := 30
def kX0_cell : Nat := 31
def kX1_init : Nat := 32
def kX1_ice : Nat := 33
def kX1_isCell : Nat := 34
def kX1_in : Nat := 35
def kX1_iceAt : Nat := 36
def kX1_mark : Nat := 37
def kX1_edge : Nat := 38
def kX1_drift : Nat := 39
def kX1_isWind : Nat := 40
def kX1_chances : Nat := 41
def kX1_ship : Nat := 42
def kX1_costs : Nat := 43
def kX1_wind : Nat := 44
def kX1_feed : Nat := 45
def kX1_put : Nat := 46
def kX1_end : Nat := 47
def kX1_text : Nat := 48
def kX1_fault : Nat := 49
def kX1_by : Nat := 50
def kX1_isText : Nat := 51
def kX1_can : Nat := 52
def kX1_isOrder : Nat := 53
def kX1_costOf : Nat := 54
def kX1_dx : Nat := 55
def kX1_dy : Nat := 56
def kX1_beside : Nat := 57
def kX1_may : Nat := 58
def kX1_rules : Nat := 59
def kX1_names : Nat := 60
def kX1_costOf_2 : Nat := 61
def kX1_watch : Nat := 62
def kX1_does : Nat := 63
def kX1_goes : Nat := 64
def kX1_drifts : Nat := 65
def kX1_nips : Nat := 66
def kX1_of : Nat := 67
def kX1_soonest : Nat := 68
def kX1_ship_2 : Nat := 69
def kX1_laysAhead : Nat := 70
def kX1_laysSea : Nat := 71
def kX1_soonest_2 : Nat := 72
def kX1_soonestBy : Nat := 73
def kX1_costAt : Nat := 74
def kX1_windAt : Nat := 75
def kX1_cellBehind : Nat := 76
def kX1_nippedAt : Nat := 77
def kX1_fires : Nat := 78
def kX1_least : Nat := 79
def kX1_ahead : Nat := 80
def kX1_many : Nat := 81
def kX1_order : Nat := 82
def kX1_told : Nat := 83
def kX1_laysPath : Nat := 84
def kX1_home : Nat := 85
def kX1_last : Nat := 86
def kX1_comesHome : Nat := 87
def kX1_walk : Nat := 88
def kX1_walkFrom : Nat := 89
def kX1_walks : Nat := 90
def kX1_leave : Nat := 91
def kX1_winter : Nat := 92
def kX1_nipsFrom : Nat := 93
def kX1_surest : Nat := 94
def kX1_surest_2 : Nat := 95
def kX1_surestBy : Nat := 96
def kX1_known : Nat := 97
def kX1_leads : Nat := 98
def kX1_prior : Nat := 99
def kX1_isClass : Nat := 100
def kX1_look : Nat := 101
def kX1_think : Nat := 102
def kX1_run : Nat := 103
def kX1_isRun : Nat := 104
def kX1_runs : Nat := 105
def kX1_orderBy : Nat := 106
def kX1_runs_2 : Nat := 107
def kX1_image : Nat := 108
def kX1_back : Nat := 109
def kX1_about : Nat := 110
def kX10_init : Nat := 111
def kX10_of : Nat := 112
def kX11_init : Nat := 113
def kX11_of : Nat := 114
def kX12_init : Nat := 115
def kX12_is : Nat := 116
def kX13_init : Nat := 117
def kX13_is : Nat := 118
def kX14_init : Nat := 119
def kX14_when : Nat := 120
def kX14_order : Nat := 121
def kX2_init : Nat := 122
def kX2_be : Nat := 123
def kX2_copy : Nat := 124
def kX2_copy_2 : Nat := 125
def kX3_init : Nat := 126
def kX3_copyRow : Nat := 127
def kX3_ice : Nat := 128
def kX3_isCell : Nat := 129
def kX3_isIn : Nat := 130
def kX3_iceAt : Nat := 131
def kX3_mark : Nat := 132
def kX3_edge : Nat := 133
def kX3_drift : Nat := 134
def kX3_isWind : Nat := 135
def kX3_chances : Nat := 136
def kX3_ship : Nat := 137
def kX3_isShip : Nat := 138
def kX3_ofShip : Nat := 139
def kX3_costs : Nat := 140
def kX3_wind : Nat := 141
def kX3_feed : Nat := 142
def kX3_four : Nat := 143
def kX3_end : Nat := 144
def kX3_text : Nat := 145
def kX3_readText : Nat := 146
def kX3_nextToken : Nat := 147
def kX3_byteAt : Nat := 148
def kX3_isDigit : Nat := 149
def kX3_isLetter : Nat := 150
def kX3_clause : Nat := 151
def kX3_sortOf : Nat := 152
def kX3_w3 : Nat := 153
def kX3_isWord : Nat := 154
def kX3_w4 : Nat := 155
def kX3_goesBy : Nat := 156
def kX3_summed : Nat := 157
def kX3_goesOn : Nat := 158
def kX3_hasParen : Nat := 159
def kX3_behindOne : Nat := 160
def kX3_settle : Nat := 161
def kX3_emit : Nat := 162
def kX3_push : Nat := 163
def kX3_whole : Nat := 164
def kX3_beginOne : Nat := 165
def kX3_nameOf : Nat := 166
def kX3_w5 : Nat := 167
def kX3_w6 : Nat := 168
def kX3_isBarred : Nat := 169
def kX3_either : Nat := 170
def kX3_asks : Nat := 171
def kX3_compareOf : Nat := 172
def kX3_fault : Nat := 173
def kX3_by : Nat := 174
def kX3_can : Nat := 175
def kX3_isOrder : Nat := 176
def kX3_isFree : Nat := 177
def kX3_layNow : Nat := 178
def kX3_costOf : Nat := 179
def kX3_orderCost : Nat := 180
def kX3_pushed : Nat := 181
def kX3_besideBy : Nat := 182
def kX3_pushCost : Nat := 183
def kX3_nameCell : Nat := 184
def kX3_iceOf : Nat := 185
def kX3_isAny : Nat := 186
def kX3_clauses : Nat := 187
def kX3_sortAt : Nat := 188
def kX3_work : Nat := 189
def kX3_two : Nat := 190
def kX3_clip : Nat := 191
def kX3_isAsked : Nat := 192
def kX3_sumOf : Nat := 193
def kX3_watch : Nat := 194
def kX3_does : Nat := 195
def kX3_firesBehind : Nat := 196
def kX3_go : Nat := 197
def kX3_driven : Nat := 198
def kX3_floatShip : Nat := 199
def kX3_drifted : Nat := 200
def kX3_nips : Nat := 201
def kX3_of : Nat := 202
def kX3_ahead : Nat := 203
def kX3_many : Nat := 204
def kX3_soonest : Nat := 205
def kX3_findOut : Nat := 206
def kX3_look : Nat := 207
def kX3_windBefore : Nat := 208
def kX3_stateAt : Nat := 209
def kX3_bestOut : Nat := 210
def kX3_outBy : Nat := 211
def kX3_costAhead : Nat := 212
def kX3_cellAhead : Nat := 213
def kX3_shipCell : Nat := 214
def kX3_shipCoal : Nat := 215
def kX3_shipBanked : Nat := 216
def kX3_least : Nat := 217
def kX3_order : Nat := 218
def kX3_told : Nat := 219
def kX3_follow : Nat := 220
def kX3_home : Nat := 221
def kX3_last : Nat := 222
def kX3_canHome : Nat := 223
def kX3_walk : Nat := 224
def kX3_walkFrom : Nat := 225
def kX3_walkOn : Nat := 226
def kX3_walks : Nat := 227
def kX3_leave : Nat := 228
def kX3_winter : Nat := 229
def kX3_winterAt : Nat := 230
def kX3_surest : Nat := 231
def kX3_hope : Nat := 232
def kX3_isWayOut : Nat := 233
def kX3_hopeBehind : Nat := 234
def kX3_chanceOf : Nat := 235
def kX3_behind : Nat := 236
def kX3_hopeOne : Nat := 237
def kX3_hopeTwo : Nat := 238
def kX3_known : Nat := 239
def kX3_leads : Nat := 240
def kX3_prior : Nat := 241
def kX3_look_2 : Nat := 242
def kX3_think : Nat := 243
def kX3_weigh : Nat := 244
def kX3_run : Nat := 245
def kX3_isText : Nat := 246
def kX3_runAll : Nat := 247
def kX3_orderBy : Nat := 248
def kX3_canRun : Nat := 249
def kX3_drawWind : Nat := 250
def kX3_runOne : Nat := 251
def kX3_runs : Nat := 252
def kX3_image : Nat := 253
def kX3_back : Nat := 254
def kX3_about : Nat := 255
def kX4_init : Nat := 256
def kX4_read : Nat := 257
def kX4_next : Nat := 258
def kX4_isLetter : Nat := 259
def kX4_isWord : Nat := 260
def kX4_isDigit : Nat := 261
def kX4_wrong : Nat := 262
def kX4_clause : Nat := 263
def kX4_either : Nat := 264
def kX4_both : Nat := 265
def kX4_ask : Nat := 266
def kX4_opens : Nat := 267
def kX4_sum : Nat := 268
def kX4_product : Nat := 269
def kX4_one : Nat := 270
def kX4_number : Nat := 271
def kX4_want : Nat := 272
def kX5_init : Nat := 273
def kX5_some : Nat := 274
def kX6_init : Nat := 275
def kX7_init : Nat := 276
def kX7_is : Nat := 277
def kX8_init : Nat := 278
def kX8_add : Nat := 279
def kX8_itself : Nat := 280
def kX8_of : Nat := 281
def kX9_init : Nat := 282
def kX9_of : Nat := 283
def mJ0_fill : Nat → List tp_Op := fun p => 
  if p = 0 then [o_int (.iconst 0) 0, o_ist (.istore_n 2) 2, o_ald (.aload_n 0) 0, o_alen, o_ist (.istore_n 3) 3, o_fall 5] else
  if p = 5 then [o_ild (.iload_n 2) 2, o_ild (.iload_n 3) 3, o_icmpge 13 20, o_ald (.aload_n 0) 0, o_ild (.iload_n 2) 2, o_ild (.iload_n 1) 1, o_sta .iastore [0], o_inc 2 1, o_goto (-12) 5] else
  if p = 20 then [o_vret] else
  []
def mJ0_copyOf : Nat → List tp_Op := fun p => 
  if p = 0 then [o_ald (.aload_n 0) 0, o_ild (.iload_n 1) 1, o_ald (.aload_n 0) 0, o_getcls (.invokevirtual 86), o_cs (.invokestatic 300) kJ0_copyOf_2 3 0, o_aret] else
  []
def mJ0_copyOf_2 : Nat → List tp_Op := fun p => 
  if p = 0 then [o_ald (.aload_n 2) 2, o_gs (.ldc 110) 0, o_acmpne 10 13, o_ild (.iload_n 1) 1, o_newa (.anewarray 2) 6, o_goto 14 24] else
  if p = 13 then [o_ald (.aload_n 2) 2, o_dead (.invokevirtual 90), o_ild (.iload_n 1) 1, o_dead (.invokestatic 95), o_dead (.checkcast 110), o_fall 24] else
  if p = 24 then [o_ast (.astore_n 3) 3, o_ald (.aload_n 0) 0, o_int (.iconst 0) 0, o_ald (.aload_n 3) 3, o_int (.iconst 0) 0, o_ald (.aload_n 0) 0, o_alen, o_ild (.iload_n 1) 1, o_mmin (.invokestatic 304), o_acopy (.invokestatic 150), o_ald (.aload_n 3) 3, o_aret] else
  []
def mJ0_fill_2 : Nat → List tp_Op := fun p => 
  if p = 0 then [o_ald (.aload_n 0) 0, o_alen, o_ild (.iload_n 1) 1, o_ild (.iload_n 2) 2, o_cs (.invokestatic 13) kJ0_rangeCheck 3 0, o_ild (.iload_n 1) 1, o_ist (.istore 4) 4, o_fall 10] else
  if p = 10 then [o_ild (.iload 4) 4, o_ild (.iload_n 2) 2, o_icmpge 14 27, o_ald (.aload_n 0) 0, o_ild (.iload 4) 4, o_ild (.iload_n 3) 3, o_sta .iastore [0], o_inc 4 1, o_goto (-14) 10] else
  if p = 27 then [o_vret] else
  []
def mJ0_rangeCheck : Nat → List tp_Op := fun p => 
  if p = 0 then [o_ild (.iload_n 1) 1, o_ild (.iload_n 2) 2, o_icmple 44 46, o_dead (.new 43), o_dup, o_dead (.new 45), o_dup, o_dead (.invokespecial 47), o_dead (.ldc 48), o_dead (.invokevirtual 50), o_ild (.iload_n 1) 1, o_dead (.invokevirtual 54), o_dead (.ldc 57), o_dead (.invokevirtual 50), o_ild (.iload_n 2) 2, o_dead (.invokevirtual 54), o_dead (.ldc 59), o_dead (.invokevirtual 50), o_dead (.invokevirtual 61), o_dead (.invokespecial 65), o_thr] else
  if p = 46 then [o_ild (.iload_n 1) 1, o_ifge 12 59, o_dead (.new 68), o_dup, o_ild (.iload_n 1) 1, o_dead (.invokespecial 70), o_thr] else
  if p = 59 then [o_ild (.iload_n 2) 2, o_ild (.iload_n 0) 0, o_icmple 12 73, o_dead (.new 68), o_dup, o_ild (.iload_n 2) 2, o_dead (.invokespecial 70), o_thr] else
  if p = 73 then [o_vret] else
  []
def mJ11_init : Nat → List tp_Op := fun p => 
  if p = 0 then [o_ald (.aload_n 0) 0, o_objinit (.invokespecial 1), o_vret] else
  []
def mJ12_init : Nat → List tp_Op := fun p => 
  if p = 0 then [o_ald (.aload_n 0) 0, o_objinit (.invokespecial 1), o_vret] else
  []
def mJ13_valueOf : Nat → List tp_Op := fun p => 
  if p = 0 then [o_ild (.iload_n 0) 0, o_int (.bipush (-128)) (-128), o_icmplt 20 23, o_ild (.iload_n 0) 0, o_gs (.getstatic 191) 1, o_icmpgt 13 23, o_gs (.getstatic 195) 2, o_ild (.iload_n 0) 0, o_int (.sipush 128) 128, o_iadd, o_lda .aaload [4, 5, 6, 7, 28, 29], o_aret] else
  if p = 23 then [o_dead (.new 1), o_dup, o_ild (.iload_n 0) 0, o_cp (.invokespecial 199) kJ13_init 1 0, o_aret] else
  []
def mJ13_init : Nat → List tp_Op := fun p => 
  if p = 0 then [o_ald (.aload_n 0) 0, o_cp (.invokespecial 202) kJ12_init 0 0, o_ald (.aload_n 0) 0, o_ild (.iload_n 1) 1, o_dead (.putfield 205), o_vret] else
  []
def mJ13_intValue : Nat → List tp_Op := fun p => 
  if p = 0 then [o_ald (.aload_n 0) 0, o_getf (.getfield 205) 16 0, o_iret 0] else
  []
def mJ14_newLength : Nat → List tp_Op := fun p => 
  if p = 0 then [o_ild (.iload_n 0) 0, o_ild (.iload_n 1) 1, o_ild (.iload_n 2) 2, o_mmax (.invokestatic 194), o_iadd, o_ist (.istore_n 3) 3, o_int (.iconst 0) 0, o_ild (.iload_n 3) 3, o_icmpge 11 21, o_ild (.iload_n 3) 3, o_int (.ldc 200) 2147483639, o_icmpgt 5 21, o_ild (.iload_n 3) 3, o_iret 0] else
  if p = 21 then [o_ild (.iload_n 0) 0, o_ild (.iload_n 1) 1, o_dead (.invokestatic 201), o_iret 0] else
  []
def mJ15_checkIndex : Nat → List tp_Op := fun p => 
  if p = 0 then [o_ild (.iload_n 0) 0, o_ild (.iload_n 1) 1, o_null, o_cs (.invokestatic 105) kJ7_checkIndex 3 0, o_iret 0] else
  []
def mJ2_init : Nat → List tp_Op := fun p => 
  if p = 0 then [o_ald (.aload_n 0) 0, o_objinit (.invokespecial 1), o_vret] else
  []
def mJ3_init : Nat → List tp_Op := fun p => 
  if p = 0 then [o_ald (.aload_n 0) 0, o_cp (.invokespecial 1) kJ2_init 0 0, o_ald (.aload_n 0) 0, o_int (.iconst 0) 0, o_putf (.putfield 7) 15 0 0, o_vret] else
  []
def mJ4_init : Nat → List tp_Op := fun p => 
  if p = 0 then [o_ald (.aload_n 0) 0, o_cp (.invokespecial 1) kJ3_init 0 0, o_ald (.aload_n 0) 0, o_gs (.getstatic 39) 3, o_putf (.putfield 9) 15 1 4, o_vret] else
  []
def mJ4_add : Nat → List tp_Op := fun p => 
  if p = 0 then [o_ald (.aload_n 0) 0, o_dup, o_getf (.getfield 63) 15 0, o_int (.iconst 1) 1, o_iadd, o_putf (.putfield 63) 15 0 0, o_ald (.aload_n 0) 0, o_ald (.aload_n 1) 1, o_ald (.aload_n 0) 0, o_getf (.getfield 9) 15 1, o_ald (.aload_n 0) 0, o_getf (.getfield 48) 15 2, o_cv (.invokevirtual 131) 15 kJ4_add_2 3 0, o_int (.iconst 1) 1, o_iret 1] else
  []
def mJ4_add_2 : Nat → List tp_Op := fun p => 
  if p = 0 then [o_ild (.iload_n 3) 3, o_ald (.aload_n 2) 2, o_alen, o_icmpne 8 11, o_ald (.aload_n 0) 0, o_cv (.invokevirtual 129) 15 kJ4_grow 0 0, o_ast (.astore_n 2) 2, o_fall 11] else
  if p = 11 then [o_ald (.aload_n 2) 2, o_ild (.iload_n 3) 3, o_ald (.aload_n 1) 1, o_aast [6] [7, 8, 9, 10, 11, 12, 13, 14, 16], o_ald (.aload_n 0) 0, o_ild (.iload_n 3) 3, o_int (.iconst 1) 1, o_iadd, o_putf (.putfield 48) 15 2 0, o_vret] else
  []
def mJ4_grow : Nat → List tp_Op := fun p => 
  if p = 0 then [o_ald (.aload_n 0) 0, o_ald (.aload_n 0) 0, o_getf (.getfield 48) 15 2, o_int (.iconst 1) 1, o_iadd, o_cv (.invokevirtual 69) 15 kJ4_grow_2 1 0, o_aret] else
  []
def mJ4_grow_2 : Nat → List tp_Op := fun p => 
  if p = 0 then [o_ald (.aload_n 0) 0, o_getf (.getfield 9) 15 1, o_alen, o_ist (.istore_n 2) 2, o_ild (.iload_n 2) 2, o_ifgt 13 20, o_ald (.aload_n 0) 0, o_getf (.getfield 9) 15 1, o_gs (.getstatic 39) 3, o_acmpeq 28 45, o_fall 20] else
  if p = 20 then [o_ild (.iload_n 2) 2, o_ild (.iload_n 1) 1, o_ild (.iload_n 2) 2, o_isub, o_ild (.iload_n 2) 2, o_int (.iconst 1) 1, o_ishr, o_cs (.invokestatic 73) kJ14_newLength 3 0, o_ist (.istore_n 3) 3, o_ald (.aload_n 0) 0, o_ald (.aload_n 0) 0, o_getf (.getfield 9) 15 1, o_ild (.iload_n 3) 3, o_cs (.invokestatic 66) kJ0_copyOf 2 0, o_dup_x1, o_putf (.putfield 9) 15 1 4, o_aret] else
  if p = 45 then [o_ald (.aload_n 0) 0, o_int (.bipush 10) 10, o_ild (.iload_n 1) 1, o_mmax (.invokestatic 79), o_newa (.anewarray 7) 6, o_dup_x1, o_putf (.putfield 9) 15 1 4, o_aret] else
  []
def mJ4_isEmpty : Nat → List tp_Op := fun p => 
  if p = 0 then [o_ald (.aload_n 0) 0, o_getf (.getfield 48) 15 2, o_ifne 7 11, o_int (.iconst 1) 1, o_goto 4 12] else
  if p = 11 then [o_int (.iconst 0) 0, o_fall 12] else
  if p = 12 then [o_iret 1] else
  []
def mJ4_size : Nat → List tp_Op := fun p => 
  if p = 0 then [o_ald (.aload_n 0) 0, o_getf (.getfield 48) 15 2, o_iret 0] else
  []
def mJ4_get : Nat → List tp_Op := fun p => 
  if p = 0 then [o_ild (.iload_n 1) 1, o_ald (.aload_n 0) 0, o_getf (.getfield 48) 15 2, o_cs (.invokestatic 118) kJ15_checkIndex 2 0, o_pop, o_ald (.aload_n 0) 0, o_ild (.iload_n 1) 1, o_cv (.invokevirtual 123) 15 kJ4_elementData 1 0, o_aret] else
  []
def mJ4_elementData : Nat → List tp_Op := fun p => 
  if p = 0 then [o_ald (.aload_n 0) 0, o_getf (.getfield 9) 15 1, o_ild (.iload_n 1) 1, o_lda .aaload [4, 5, 6, 7, 28, 29], o_aret] else
  []
def mJ5_length : Nat → List tp_Op := fun p => 
  if p = 0 then [o_ald (.aload_n 0) 0, o_getf (.getfield 9) 17 0, o_alen, o_ald (.aload_n 0) 0, o_cv (.invokevirtual 335) 17 kJ5_coder 0 0, o_ishr, o_iret 0] else
  []
def mJ5_coder : Nat → List tp_Op := fun p => 
  if p = 0 then [o_gs (.getstatic 38) 4, o_ifeq 10 13, o_ald (.aload_n 0) 0, o_getf (.getfield 15) 17 1, o_goto 4 14] else
  if p = 13 then [o_int (.iconst 1) 1, o_fall 14] else
  if p = 14 then [o_iret 2] else
  []
def mJ5_charAt : Nat → List tp_Op := fun p => 
  if p = 0 then [o_ald (.aload_n 0) 0, o_cv (.invokevirtual 492) 17 kJ5_isLatin1 0 0, o_ifeq 12 16, o_ald (.aload_n 0) 0, o_getf (.getfield 9) 17 0, o_ild (.iload_n 1) 1, o_cs (.invokestatic 495) kJ6_charAt 2 0, o_iret 9] else
  if p = 16 then [o_ald (.aload_n 0) 0, o_getf (.getfield 9) 17 0, o_ild (.iload_n 1) 1, o_dead (.invokestatic 498), o_iret 9] else
  []
def mJ5_isLatin1 : Nat → List tp_Op := fun p => 
  if p = 0 then [o_gs (.getstatic 38) 4, o_ifeq 14 17, o_ald (.aload_n 0) 0, o_getf (.getfield 15) 17 1, o_ifne 7 17, o_int (.iconst 1) 1, o_goto 4 18] else
  if p = 17 then [o_int (.iconst 0) 0, o_fall 18] else
  if p = 18 then [o_iret 1] else
  []
def mJ5_checkIndex : Nat → List tp_Op := fun p => 
  if p = 0 then [o_ild (.iload_n 0) 0, o_ild (.iload_n 1) 1, o_gs (.getstatic 1053) 8, o_cs (.invokestatic 1059) kJ7_checkIndex 3 0, o_pop, o_vret] else
  []
def mJ6_charAt : Nat → List tp_Op := fun p => 
  if p = 0 then [o_ild (.iload_n 1) 1, o_ald (.aload_n 0) 0, o_alen, o_cs (.invokestatic 9) kJ5_checkIndex 2 0, o_ald (.aload_n 0) 0, o_ild (.iload_n 1) 1, o_lda .baload [1, 2, 22], o_int (.sipush 255) 255, o_iand, o_i2c, o_iret 9] else
  []
def mJ7_checkIndex : Nat → List tp_Op := fun p => 
  if p = 0 then [o_ild (.iload_n 0) 0, o_iflt 8 9, o_ild (.iload_n 0) 0, o_ild (.iload_n 1) 1, o_icmplt 10 16, o_fall 9] else
  if p = 9 then [o_ald (.aload_n 2) 2, o_ild (.iload_n 0) 0, o_ild (.iload_n 1) 1, o_dead (.invokestatic 95), o_thr] else
  if p = 16 then [o_ild (.iload_n 0) 0, o_iret 0] else
  []
def mL_law : Nat → List tp_Op := fun p => 
  if p = 0 then [o_new (.new 7) 1 23 [xN, xN, xI 0, xI 0, xI 0, xN, xI 0, xI 0, xI 0, xN, xN, xI 0, xN, xN, xN, xN, xI 0, xN, xN, xN, xN, xN, xN], o_dup, o_ald (.aload_n 0) 0, o_int (.iconst 0) 0, o_cs (.invokestatic 9) kX0_cell 2 0, o_ald (.aload_n 0) 0, o_int (.iconst 1) 1, o_cs (.invokestatic 9) kX0_cell 2 0, o_cp (.invokespecial 15) kX1_init 2 0, o_ast (.astore_n 1) 1, o_new (.new 18) 3 47 [xI 0, xI 0, xI 0, xN, xN, xN, xN, xI 0, xI 0, xI 0, xI 0, xI 0, xI 0, xI 0, xJ 0, xI 0, xI 0, xI 0, xI 0, xN, xI 0, xI 0, xI 0, xI 0, xI 0, xN, xN, xN, xN, xN, xN, xN, xI 0, xN, xN, xN, xN, xN, xN, xI 0, xN, xI 0, xI 0, xI 0, xI 0, xI 0, xI 0], o_dup, o_ald (.aload_n 0) 0, o_int (.iconst 0) 0, o_cs (.invokestatic 9) kX0_cell 2 0, o_ald (.aload_n 0) 0, o_int (.iconst 1) 1, o_cs (.invokestatic 9) kX0_cell 2 0, o_cp (.invokespecial 20) kX3_init 2 0, o_ast (.astore_n 2) 2, o_int (.iconst 2) 2, o_ist (.istore_n 3) 3, o_fall 38] else
  if p = 38 then [o_ild (.iload_n 3) 3, o_ald (.aload_n 0) 0, o_alen, o_int (.bipush 6) 6, o_isub, o_icmpgt 1378 1422, o_ald (.aload_n 0) 0, o_ild (.iload_n 3) 3, o_lda .iaload [0, 20], o_int (.bipush 63) 63, o_iand, o_sw (.tableswitch 1363 0 37 #[167, 200, 223, 298, 321, 364, 427, 470, 513, 536, 599, 622, 635, 658, 681, 714, 757, 790, 823, 856, 879, 892, 925, 948, 971, 984, 1007, 1020, 1043, 1076, 1099, 1132, 1165, 1198, 1251, 1314, 1327, 1340]) [(0, 220), (1, 253), (2, 276), (3, 351), (4, 374), (5, 417), (6, 480), (7, 523), (8, 566), (9, 589), (10, 652), (11, 675), (12, 688), (13, 711), (14, 734), (15, 767), (16, 810), (17, 843), (18, 876), (19, 909), (20, 932), (21, 945), (22, 978), (23, 1001), (24, 1024), (25, 1037), (26, 1060), (27, 1073), (28, 1096), (29, 1129), (30, 1152), (31, 1185), (32, 1218), (33, 1251), (34, 1304), (35, 1367), (36, 1380), (37, 1393)] 1416] else
  if p = 220 then [o_ald (.aload_n 1) 1, o_ald (.aload_n 0) 0, o_ild (.iload_n 3) 3, o_int (.iconst 1) 1, o_iadd, o_lda .iaload [0, 20], o_ald (.aload_n 0) 0, o_ild (.iload_n 3) 3, o_int (.iconst 2) 2, o_iadd, o_lda .iaload [0, 20], o_cv (.invokevirtual 21) 1 kX1_ice 2 0, o_ald (.aload_n 2) 2, o_ald (.aload_n 0) 0, o_ild (.iload_n 3) 3, o_int (.iconst 1) 1, o_iadd, o_lda .iaload [0, 20], o_ald (.aload_n 0) 0, o_ild (.iload_n 3) 3, o_int (.iconst 2) 2, o_iadd, o_lda .iaload [0, 20], o_cv (.invokevirtual 25) 3 kX3_ice 2 0, o_icmpeq 1168 1416, o_int (.iconst 0) 0, o_iret 1] else
  if p = 253 then [o_ald (.aload_n 1) 1, o_ald (.aload_n 0) 0, o_ild (.iload_n 3) 3, o_int (.iconst 1) 1, o_iadd, o_lda .iaload [0, 20], o_cv (.invokevirtual 26) 1 kX1_iceAt 1 0, o_ald (.aload_n 2) 2, o_ald (.aload_n 0) 0, o_ild (.iload_n 3) 3, o_int (.iconst 1) 1, o_iadd, o_lda .iaload [0, 20], o_cv (.invokevirtual 30) 3 kX3_iceAt 1 0, o_icmpeq 1145 1416, o_int (.iconst 0) 0, o_iret 1] else
  if p = 276 then [o_ald (.aload_n 1) 1, o_ald (.aload_n 0) 0, o_ild (.iload_n 3) 3, o_int (.iconst 1) 1, o_iadd, o_lda .iaload [0, 20], o_ald (.aload_n 0) 0, o_ild (.iload_n 3) 3, o_int (.iconst 2) 2, o_iadd, o_lda .iaload [0, 20], o_ifeq 7 294, o_int (.iconst 1) 1, o_goto 4 295] else
  if p = 294 then [o_int (.iconst 0) 0, o_fall 295] else
  if p = 295 then [o_ald (.aload_n 0) 0, o_ild (.iload_n 3) 3, o_int (.iconst 3) 3, o_iadd, o_lda .iaload [0, 20], o_ifeq 7 307, o_int (.iconst 1) 1, o_goto 4 308] else
  if p = 307 then [o_int (.iconst 0) 0, o_fall 308] else
  if p = 308 then [o_cv (.invokevirtual 31) 1 kX1_mark 3 0, o_ald (.aload_n 2) 2, o_ald (.aload_n 0) 0, o_ild (.iload_n 3) 3, o_int (.iconst 1) 1, o_iadd, o_lda .iaload [0, 20], o_ald (.aload_n 0) 0, o_ild (.iload_n 3) 3, o_int (.iconst 2) 2, o_iadd, o_lda .iaload [0, 20], o_ifeq 7 329, o_int (.iconst 1) 1, o_goto 4 330] else
  if p = 329 then [o_int (.iconst 0) 0, o_fall 330] else
  if p = 330 then [o_ald (.aload_n 0) 0, o_ild (.iload_n 3) 3, o_int (.iconst 3) 3, o_iadd, o_lda .iaload [0, 20], o_ifeq 7 342, o_int (.iconst 1) 1, o_goto 4 343] else
  if p = 342 then [o_int (.iconst 0) 0, o_fall 343] else
  if p = 343 then [o_cv (.invokevirtual 35) 3 kX3_mark 3 0, o_icmpeq 1070 1416, o_int (.iconst 0) 0, o_iret 1] else
  if p = 351 then [o_ald (.aload_n 1) 1, o_ald (.aload_n 0) 0, o_ild (.iload_n 3) 3, o_int (.iconst 1) 1, o_iadd, o_lda .iaload [0, 20], o_cv (.invokevirtual 36) 1 kX1_edge 1 0, o_ald (.aload_n 2) 2, o_ald (.aload_n 0) 0, o_ild (.iload_n 3) 3, o_int (.iconst 1) 1, o_iadd, o_lda .iaload [0, 20], o_cv (.invokevirtual 40) 3 kX3_edge 1 0, o_icmpeq 1047 1416, o_int (.iconst 0) 0, o_iret 1] else
  if p = 374 then [o_ald (.aload_n 1) 1, o_ald (.aload_n 0) 0, o_ild (.iload_n 3) 3, o_int (.iconst 1) 1, o_iadd, o_lda .iaload [0, 20], o_ald (.aload_n 0) 0, o_ild (.iload_n 3) 3, o_int (.iconst 2) 2, o_iadd, o_lda .iaload [0, 20], o_ald (.aload_n 0) 0, o_ild (.iload_n 3) 3, o_int (.iconst 3) 3, o_iadd, o_lda .iaload [0, 20], o_cv (.invokevirtual 41) 1 kX1_drift 3 0, o_ald (.aload_n 2) 2, o_ald (.aload_n 0) 0, o_ild (.iload_n 3) 3, o_int (.iconst 1) 1, o_iadd, o_lda .iaload [0, 20], o_ald (.aload_n 0) 0, o_ild (.iload_n 3) 3, o_int (.iconst 2) 2, o_iadd, o_lda .iaload [0, 20], o_ald (.aload_n 0) 0, o_ild (.iload_n 3) 3, o_int (.iconst 3) 3, o_iadd, o_lda .iaload [0, 20], o_cv (.invokevirtual 45) 3 kX3_drift 3 0, o_icmpeq 1004 1416, o_int (.iconst 0) 0, o_iret 1] else
  if p = 417 then [o_ald (.aload_n 1) 1, o_ald (.aload_n 0) 0, o_ild (.iload_n 3) 3, o_int (.iconst 1) 1, o_iadd, o_lda .iaload [0, 20], o_ald (.aload_n 0) 0, o_ild (.iload_n 3) 3, o_int (.iconst 2) 2, o_iadd, o_lda .iaload [0, 20], o_ald (.aload_n 0) 0, o_ild (.iload_n 3) 3, o_int (.iconst 3) 3, o_iadd, o_lda .iaload [0, 20], o_ald (.aload_n 0) 0, o_ild (.iload_n 3) 3, o_int (.iconst 4) 4, o_iadd, o_lda .iaload [0, 20], o_ald (.aload_n 0) 0, o_ild (.iload_n 3) 3, o_int (.iconst 5) 5, o_iadd, o_lda .iaload [0, 20], o_cv (.invokevirtual 46) 1 kX1_chances 5 0, o_ald (.aload_n 2) 2, o_ald (.aload_n 0) 0, o_ild (.iload_n 3) 3, o_int (.iconst 1) 1, o_iadd, o_lda .iaload [0, 20], o_ald (.aload_n 0) 0, o_ild (.iload_n 3) 3, o_int (.iconst 2) 2, o_iadd, o_lda .iaload [0, 20], o_ald (.aload_n 0) 0, o_ild (.iload_n 3) 3, o_int (.iconst 3) 3, o_iadd, o_lda .iaload [0, 20], o_ald (.aload_n 0) 0, o_ild (.iload_n 3) 3, o_int (.iconst 4) 4, o_iadd, o_lda .iaload [0, 20], o_ald (.aload_n 0) 0, o_ild (.iload_n 3) 3, o_int (.iconst 5) 5, o_iadd, o_lda .iaload [0, 20], o_cv (.invokevirtual 50) 3 kX3_chances 5 0, o_icmpeq 941 1416, o_int (.iconst 0) 0, o_iret 1] else
  if p = 480 then [o_ald (.aload_n 1) 1, o_ald (.aload_n 0) 0, o_ild (.iload_n 3) 3, o_int (.iconst 1) 1, o_iadd, o_lda .iaload [0, 20], o_ald (.aload_n 0) 0, o_ild (.iload_n 3) 3, o_int (.iconst 2) 2, o_iadd, o_lda .iaload [0, 20], o_ald (.aload_n 0) 0, o_ild (.iload_n 3) 3, o_int (.iconst 3) 3, o_iadd, o_lda .iaload [0, 20], o_cv (.invokevirtual 51) 1 kX1_ship 3 0, o_ald (.aload_n 2) 2, o_ald (.aload_n 0) 0, o_ild (.iload_n 3) 3, o_int (.iconst 1) 1, o_iadd, o_lda .iaload [0, 20], o_ald (.aload_n 0) 0, o_ild (.iload_n 3) 3, o_int (.iconst 2) 2, o_iadd, o_lda .iaload [0, 20], o_ald (.aload_n 0) 0, o_ild (.iload_n 3) 3, o_int (.iconst 3) 3, o_iadd, o_lda .iaload [0, 20], o_cv (.invokevirtual 54) 3 kX3_ship 3 0, o_icmpeq 898 1416, o_int (.iconst 0) 0, o_iret 1] else
  if p = 523 then [o_ald (.aload_n 1) 1, o_ald (.aload_n 0) 0, o_ild (.iload_n 3) 3, o_int (.iconst 1) 1, o_iadd, o_lda .iaload [0, 20], o_ald (.aload_n 0) 0, o_ild (.iload_n 3) 3, o_int (.iconst 2) 2, o_iadd, o_lda .iaload [0, 20], o_ald (.aload_n 0) 0, o_ild (.iload_n 3) 3, o_int (.iconst 3) 3, o_iadd, o_lda .iaload [0, 20], o_cv (.invokevirtual 55) 1 kX1_costs 3 0, o_ald (.aload_n 2) 2, o_ald (.aload_n 0) 0, o_ild (.iload_n 3) 3, o_int (.iconst 1) 1, o_iadd, o_lda .iaload [0, 20], o_ald (.aload_n 0) 0, o_ild (.iload_n 3) 3, o_int (.iconst 2) 2, o_iadd, o_lda .iaload [0, 20], o_ald (.aload_n 0) 0, o_ild (.iload_n 3) 3, o_int (.iconst 3) 3, o_iadd, o_lda .iaload [0, 20], o_cv (.invokevirtual 58) 3 kX3_costs 3 0, o_icmpeq 855 1416, o_int (.iconst 0) 0, o_iret 1] else
  if p = 566 then [o_ald (.aload_n 1) 1, o_ald (.aload_n 0) 0, o_ild (.iload_n 3) 3, o_int (.iconst 1) 1, o_iadd, o_lda .iaload [0, 20], o_cv (.invokevirtual 59) 1 kX1_wind 1 0, o_ald (.aload_n 2) 2, o_ald (.aload_n 0) 0, o_ild (.iload_n 3) 3, o_int (.iconst 1) 1, o_iadd, o_lda .iaload [0, 20], o_cv (.invokevirtual 62) 3 kX3_wind 1 0, o_icmpeq 832 1416, o_int (.iconst 0) 0, o_iret 1] else
  if p = 589 then [o_ald (.aload_n 1) 1, o_ald (.aload_n 0) 0, o_ild (.iload_n 3) 3, o_int (.iconst 1) 1, o_iadd, o_lda .iaload [0, 20], o_ald (.aload_n 0) 0, o_ild (.iload_n 3) 3, o_int (.iconst 2) 2, o_iadd, o_lda .iaload [0, 20], o_ald (.aload_n 0) 0, o_ild (.iload_n 3) 3, o_int (.iconst 3) 3, o_iadd, o_lda .iaload [0, 20], o_ald (.aload_n 0) 0, o_ild (.iload_n 3) 3, o_int (.iconst 4) 4, o_iadd, o_lda .iaload [0, 20], o_ald (.aload_n 0) 0, o_ild (.iload_n 3) 3, o_int (.iconst 5) 5, o_iadd, o_lda .iaload [0, 20], o_cv (.invokevirtual 63) 1 kX1_feed 5 0, o_ald (.aload_n 2) 2, o_ald (.aload_n 0) 0, o_ild (.iload_n 3) 3, o_int (.iconst 1) 1, o_iadd, o_lda .iaload [0, 20], o_ald (.aload_n 0) 0, o_ild (.iload_n 3) 3, o_int (.iconst 2) 2, o_iadd, o_lda .iaload [0, 20], o_ald (.aload_n 0) 0, o_ild (.iload_n 3) 3, o_int (.iconst 3) 3, o_iadd, o_lda .iaload [0, 20], o_ald (.aload_n 0) 0, o_ild (.iload_n 3) 3, o_int (.iconst 4) 4, o_iadd, o_lda .iaload [0, 20], o_ald (.aload_n 0) 0, o_ild (.iload_n 3) 3, o_int (.iconst 5) 5, o_iadd, o_lda .iaload [0, 20], o_cv (.invokevirtual 67) 3 kX3_feed 5 0, o_icmpeq 769 1416, o_int (.iconst 0) 0, o_iret 1] else
  if p = 652 then [o_ald (.aload_n 1) 1, o_ald (.aload_n 0) 0, o_ild (.iload_n 3) 3, o_int (.iconst 1) 1, o_iadd, o_lda .iaload [0, 20], o_cv (.invokevirtual 68) 1 kX1_end 1 0, o_ald (.aload_n 2) 2, o_ald (.aload_n 0) 0, o_ild (.iload_n 3) 3, o_int (.iconst 1) 1, o_iadd, o_lda .iaload [0, 20], o_cv (.invokevirtual 71) 3 kX3_end 1 0, o_icmpeq 746 1416, o_int (.iconst 0) 0, o_iret 1] else
  if p = 675 then [o_ald (.aload_n 1) 1, o_cv (.invokevirtual 72) 1 kX1_text 0 0, o_ald (.aload_n 2) 2, o_cv (.invokevirtual 76) 3 kX3_text 0 0, o_icmpeq 733 1416, o_int (.iconst 0) 0, o_iret 1] else
  if p = 688 then [o_ald (.aload_n 1) 1, o_ald (.aload_n 0) 0, o_ild (.iload_n 3) 3, o_int (.iconst 1) 1, o_iadd, o_lda .iaload [0, 20], o_cv (.invokevirtual 77) 1 kX1_fault 1 0, o_ald (.aload_n 2) 2, o_ald (.aload_n 0) 0, o_ild (.iload_n 3) 3, o_int (.iconst 1) 1, o_iadd, o_lda .iaload [0, 20], o_cv (.invokevirtual 80) 3 kX3_fault 1 0, o_icmpeq 710 1416, o_int (.iconst 0) 0, o_iret 1] else
  if p = 711 then [o_ald (.aload_n 1) 1, o_ald (.aload_n 0) 0, o_ild (.iload_n 3) 3, o_int (.iconst 1) 1, o_iadd, o_lda .iaload [0, 20], o_cv (.invokevirtual 81) 1 kX1_by 1 0, o_ald (.aload_n 2) 2, o_ald (.aload_n 0) 0, o_ild (.iload_n 3) 3, o_int (.iconst 1) 1, o_iadd, o_lda .iaload [0, 20], o_cv (.invokevirtual 84) 3 kX3_by 1 0, o_icmpeq 687 1416, o_int (.iconst 0) 0, o_iret 1] else
  if p = 734 then [o_ald (.aload_n 1) 1, o_ald (.aload_n 0) 0, o_ild (.iload_n 3) 3, o_int (.iconst 1) 1, o_iadd, o_lda .iaload [0, 20], o_ald (.aload_n 0) 0, o_ild (.iload_n 3) 3, o_int (.iconst 2) 2, o_iadd, o_lda .iaload [0, 20], o_cv (.invokevirtual 85) 1 kX1_can 2 0, o_ald (.aload_n 2) 2, o_ald (.aload_n 0) 0, o_ild (.iload_n 3) 3, o_int (.iconst 1) 1, o_iadd, o_lda .iaload [0, 20], o_ald (.aload_n 0) 0, o_ild (.iload_n 3) 3, o_int (.iconst 2) 2, o_iadd, o_lda .iaload [0, 20], o_cv (.invokevirtual 88) 3 kX3_can 2 0, o_icmpeq 654 1416, o_int (.iconst 0) 0, o_iret 1] else
  if p = 767 then [o_ald (.aload_n 1) 1, o_ald (.aload_n 0) 0, o_ild (.iload_n 3) 3, o_int (.iconst 1) 1, o_iadd, o_lda .iaload [0, 20], o_ald (.aload_n 0) 0, o_ild (.iload_n 3) 3, o_int (.iconst 2) 2, o_iadd, o_lda .iaload [0, 20], o_ald (.aload_n 0) 0, o_ild (.iload_n 3) 3, o_int (.iconst 3) 3, o_iadd, o_lda .iaload [0, 20], o_cv (.invokevirtual 89) 1 kX1_watch 3 0, o_ald (.aload_n 2) 2, o_ald (.aload_n 0) 0, o_ild (.iload_n 3) 3, o_int (.iconst 1) 1, o_iadd, o_lda .iaload [0, 20], o_ald (.aload_n 0) 0, o_ild (.iload_n 3) 3, o_int (.iconst 2) 2, o_iadd, o_lda .iaload [0, 20], o_ald (.aload_n 0) 0, o_ild (.iload_n 3) 3, o_int (.iconst 3) 3, o_iadd, o_lda .iaload [0, 20], o_cv (.invokevirtual 93) 3 kX3_watch 3 0, o_icmpeq 611 1416, o_int (.iconst 0) 0, o_iret 1] else
  if p = 810 then [o_ald (.aload_n 1) 1, o_ald (.aload_n 0) 0, o_ild (.iload_n 3) 3, o_int (.iconst 1) 1, o_iadd, o_lda .iaload [0, 20], o_ald (.aload_n 0) 0, o_ild (.iload_n 3) 3, o_int (.iconst 2) 2, o_iadd, o_lda .iaload [0, 20], o_cv (.invokevirtual 94) 1 kX1_of 2 0, o_ald (.aload_n 2) 2, o_ald (.aload_n 0) 0, o_ild (.iload_n 3) 3, o_int (.iconst 1) 1, o_iadd, o_lda .iaload [0, 20], o_ald (.aload_n 0) 0, o_ild (.iload_n 3) 3, o_int (.iconst 2) 2, o_iadd, o_lda .iaload [0, 20], o_cv (.invokevirtual 98) 3 kX3_of 2 0, o_icmpeq 578 1416, o_int (.iconst 0) 0, o_iret 1] else
  if p = 843 then [o_ald (.aload_n 1) 1, o_ald (.aload_n 0) 0, o_ild (.iload_n 3) 3, o_int (.iconst 1) 1, o_iadd, o_lda .iaload [0, 20], o_ald (.aload_n 0) 0, o_ild (.iload_n 3) 3, o_int (.iconst 2) 2, o_iadd, o_lda .iaload [0, 20], o_cv (.invokevirtual 99) 1 kX1_ahead 2 0, o_ald (.aload_n 2) 2, o_ald (.aload_n 0) 0, o_ild (.iload_n 3) 3, o_int (.iconst 1) 1, o_iadd, o_lda .iaload [0, 20], o_ald (.aload_n 0) 0, o_ild (.iload_n 3) 3, o_int (.iconst 2) 2, o_iadd, o_lda .iaload [0, 20], o_cv (.invokevirtual 102) 3 kX3_ahead 2 0, o_icmpeq 545 1416, o_int (.iconst 0) 0, o_iret 1] else
  if p = 876 then [o_ald (.aload_n 1) 1, o_ald (.aload_n 0) 0, o_ild (.iload_n 3) 3, o_int (.iconst 1) 1, o_iadd, o_lda .iaload [0, 20], o_ald (.aload_n 0) 0, o_ild (.iload_n 3) 3, o_int (.iconst 2) 2, o_iadd, o_lda .iaload [0, 20], o_cv (.invokevirtual 103) 1 kX1_many 2 0, o_ald (.aload_n 2) 2, o_ald (.aload_n 0) 0, o_ild (.iload_n 3) 3, o_int (.iconst 1) 1, o_iadd, o_lda .iaload [0, 20], o_ald (.aload_n 0) 0, o_ild (.iload_n 3) 3, o_int (.iconst 2) 2, o_iadd, o_lda .iaload [0, 20], o_cv (.invokevirtual 106) 3 kX3_many 2 0, o_icmpeq 512 1416, o_int (.iconst 0) 0, o_iret 1] else
  if p = 909 then [o_ald (.aload_n 1) 1, o_ald (.aload_n 0) 0, o_ild (.iload_n 3) 3, o_int (.iconst 1) 1, o_iadd, o_lda .iaload [0, 20], o_cv (.invokevirtual 107) 1 kX1_soonest 1 0, o_ald (.aload_n 2) 2, o_ald (.aload_n 0) 0, o_ild (.iload_n 3) 3, o_int (.iconst 1) 1, o_iadd, o_lda .iaload [0, 20], o_cv (.invokevirtual 110) 3 kX3_soonest 1 0, o_icmpeq 489 1416, o_int (.iconst 0) 0, o_iret 1] else
  if p = 932 then [o_ald (.aload_n 1) 1, o_cv (.invokevirtual 111) 1 kX1_least 0 0, o_ald (.aload_n 2) 2, o_cv (.invokevirtual 114) 3 kX3_least 0 0, o_icmpeq 476 1416, o_int (.iconst 0) 0, o_iret 1] else
  if p = 945 then [o_ald (.aload_n 1) 1, o_ald (.aload_n 0) 0, o_ild (.iload_n 3) 3, o_int (.iconst 1) 1, o_iadd, o_lda .iaload [0, 20], o_ald (.aload_n 0) 0, o_ild (.iload_n 3) 3, o_int (.iconst 2) 2, o_iadd, o_lda .iaload [0, 20], o_cv (.invokevirtual 115) 1 kX1_order 2 0, o_ald (.aload_n 2) 2, o_ald (.aload_n 0) 0, o_ild (.iload_n 3) 3, o_int (.iconst 1) 1, o_iadd, o_lda .iaload [0, 20], o_ald (.aload_n 0) 0, o_ild (.iload_n 3) 3, o_int (.iconst 2) 2, o_iadd, o_lda .iaload [0, 20], o_cv (.invokevirtual 118) 3 kX3_order 2 0, o_icmpeq 443 1416, o_int (.iconst 0) 0, o_iret 1] else
  if p = 978 then [o_ald (.aload_n 1) 1, o_ald (.aload_n 0) 0, o_ild (.iload_n 3) 3, o_int (.iconst 1) 1, o_iadd, o_lda .iaload [0, 20], o_cv (.invokevirtual 119) 1 kX1_told 1 0, o_ald (.aload_n 2) 2, o_ald (.aload_n 0) 0, o_ild (.iload_n 3) 3, o_int (.iconst 1) 1, o_iadd, o_lda .iaload [0, 20], o_cv (.invokevirtual 122) 3 kX3_told 1 0, o_icmpeq 420 1416, o_int (.iconst 0) 0, o_iret 1] else
  if p = 1001 then [o_ald (.aload_n 1) 1, o_ald (.aload_n 0) 0, o_ild (.iload_n 3) 3, o_int (.iconst 1) 1, o_iadd, o_lda .iaload [0, 20], o_cv (.invokevirtual 123) 1 kX1_home 1 0, o_ald (.aload_n 2) 2, o_ald (.aload_n 0) 0, o_ild (.iload_n 3) 3, o_int (.iconst 1) 1, o_iadd, o_lda .iaload [0, 20], o_cv (.invokevirtual 126) 3 kX3_home 1 0, o_icmpeq 397 1416, o_int (.iconst 0) 0, o_iret 1] else
  if p = 1024 then [o_ald (.aload_n 1) 1, o_cv (.invokevirtual 127) 1 kX1_last 0 0, o_ald (.aload_n 2) 2, o_cv (.invokevirtual 130) 3 kX3_last 0 0, o_icmpeq 384 1416, o_int (.iconst 0) 0, o_iret 1] else
  if p = 1037 then [o_ald (.aload_n 1) 1, o_ald (.aload_n 0) 0, o_ild (.iload_n 3) 3, o_int (.iconst 1) 1, o_iadd, o_lda .iaload [0, 20], o_cv (.invokevirtual 131) 1 kX1_walk 1 0, o_ald (.aload_n 2) 2, o_ald (.aload_n 0) 0, o_ild (.iload_n 3) 3, o_int (.iconst 1) 1, o_iadd, o_lda .iaload [0, 20], o_cv (.invokevirtual 134) 3 kX3_walk 1 0, o_icmpeq 361 1416, o_int (.iconst 0) 0, o_iret 1] else
  if p = 1060 then [o_ald (.aload_n 1) 1, o_cv (.invokevirtual 135) 1 kX1_leave 0 0, o_ald (.aload_n 2) 2, o_cv (.invokevirtual 138) 3 kX3_leave 0 0, o_icmpeq 348 1416, o_int (.iconst 0) 0, o_iret 1] else
  if p = 1073 then [o_ald (.aload_n 1) 1, o_ald (.aload_n 0) 0, o_ild (.iload_n 3) 3, o_int (.iconst 1) 1, o_iadd, o_lda .iaload [0, 20], o_cv (.invokevirtual 139) 1 kX1_winter 1 0, o_ald (.aload_n 2) 2, o_ald (.aload_n 0) 0, o_ild (.iload_n 3) 3, o_int (.iconst 1) 1, o_iadd, o_lda .iaload [0, 20], o_cv (.invokevirtual 142) 3 kX3_winter 1 0, o_icmpeq 325 1416, o_int (.iconst 0) 0, o_iret 1] else
  if p = 1096 then [o_ald (.aload_n 1) 1, o_ald (.aload_n 0) 0, o_ild (.iload_n 3) 3, o_int (.iconst 1) 1, o_iadd, o_lda .iaload [0, 20], o_ald (.aload_n 0) 0, o_ild (.iload_n 3) 3, o_int (.iconst 2) 2, o_iadd, o_lda .iaload [0, 20], o_cv (.invokevirtual 143) 1 kX1_surest 2 0, o_ald (.aload_n 2) 2, o_ald (.aload_n 0) 0, o_ild (.iload_n 3) 3, o_int (.iconst 1) 1, o_iadd, o_lda .iaload [0, 20], o_ald (.aload_n 0) 0, o_ild (.iload_n 3) 3, o_int (.iconst 2) 2, o_iadd, o_lda .iaload [0, 20], o_cv (.invokevirtual 146) 3 kX3_surest 2 0, o_icmpeq 292 1416, o_int (.iconst 0) 0, o_iret 1] else
  if p = 1129 then [o_ald (.aload_n 1) 1, o_ald (.aload_n 0) 0, o_ild (.iload_n 3) 3, o_int (.iconst 1) 1, o_iadd, o_lda .iaload [0, 20], o_cv (.invokevirtual 147) 1 kX1_leads 1 0, o_ald (.aload_n 2) 2, o_ald (.aload_n 0) 0, o_ild (.iload_n 3) 3, o_int (.iconst 1) 1, o_iadd, o_lda .iaload [0, 20], o_cv (.invokevirtual 150) 3 kX3_leads 1 0, o_icmpeq 269 1416, o_int (.iconst 0) 0, o_iret 1] else
  if p = 1152 then [o_ald (.aload_n 1) 1, o_ald (.aload_n 0) 0, o_ild (.iload_n 3) 3, o_int (.iconst 1) 1, o_iadd, o_lda .iaload [0, 20], o_ald (.aload_n 0) 0, o_ild (.iload_n 3) 3, o_int (.iconst 2) 2, o_iadd, o_lda .iaload [0, 20], o_cv (.invokevirtual 151) 1 kX1_prior 2 0, o_ald (.aload_n 2) 2, o_ald (.aload_n 0) 0, o_ild (.iload_n 3) 3, o_int (.iconst 1) 1, o_iadd, o_lda .iaload [0, 20], o_ald (.aload_n 0) 0, o_ild (.iload_n 3) 3, o_int (.iconst 2) 2, o_iadd, o_lda .iaload [0, 20], o_cv (.invokevirtual 154) 3 kX3_prior 2 0, o_icmpeq 236 1416, o_int (.iconst 0) 0, o_iret 1] else
  if p = 1185 then [o_ald (.aload_n 1) 1, o_ald (.aload_n 0) 0, o_ild (.iload_n 3) 3, o_int (.iconst 1) 1, o_iadd, o_lda .iaload [0, 20], o_ald (.aload_n 0) 0, o_ild (.iload_n 3) 3, o_int (.iconst 2) 2, o_iadd, o_lda .iaload [0, 20], o_cv (.invokevirtual 155) 1 kX1_look 2 0, o_ald (.aload_n 2) 2, o_ald (.aload_n 0) 0, o_ild (.iload_n 3) 3, o_int (.iconst 1) 1, o_iadd, o_lda .iaload [0, 20], o_ald (.aload_n 0) 0, o_ild (.iload_n 3) 3, o_int (.iconst 2) 2, o_iadd, o_lda .iaload [0, 20], o_cv (.invokevirtual 158) 3 kX3_look_2 2 0, o_icmpeq 203 1416, o_int (.iconst 0) 0, o_iret 1] else
  if p = 1218 then [o_ald (.aload_n 1) 1, o_ald (.aload_n 0) 0, o_ild (.iload_n 3) 3, o_int (.iconst 1) 1, o_iadd, o_lda .iaload [0, 20], o_ald (.aload_n 0) 0, o_ild (.iload_n 3) 3, o_int (.iconst 2) 2, o_iadd, o_lda .iaload [0, 20], o_cv (.invokevirtual 159) 1 kX1_think 2 0, o_ald (.aload_n 2) 2, o_ald (.aload_n 0) 0, o_ild (.iload_n 3) 3, o_int (.iconst 1) 1, o_iadd, o_lda .iaload [0, 20], o_ald (.aload_n 0) 0, o_ild (.iload_n 3) 3, o_int (.iconst 2) 2, o_iadd, o_lda .iaload [0, 20], o_cv (.invokevirtual 162) 3 kX3_think 2 0, o_icmpeq 170 1416, o_int (.iconst 0) 0, o_iret 1] else
  if p = 1251 then [o_ald (.aload_n 1) 1, o_ald (.aload_n 0) 0, o_ild (.iload_n 3) 3, o_int (.iconst 1) 1, o_iadd, o_lda .iaload [0, 20], o_ald (.aload_n 0) 0, o_ild (.iload_n 3) 3, o_int (.iconst 2) 2, o_iadd, o_lda .iaload [0, 20], o_ald (.aload_n 0) 0, o_ild (.iload_n 3) 3, o_int (.iconst 3) 3, o_iadd, o_lda .iaload [0, 20], o_ald (.aload_n 0) 0, o_ild (.iload_n 3) 3, o_int (.iconst 4) 4, o_iadd, o_lda .iaload [0, 20], o_cv (.invokevirtual 163) 1 kX1_run 4 0, o_ald (.aload_n 2) 2, o_ald (.aload_n 0) 0, o_ild (.iload_n 3) 3, o_int (.iconst 1) 1, o_iadd, o_lda .iaload [0, 20], o_ald (.aload_n 0) 0, o_ild (.iload_n 3) 3, o_int (.iconst 2) 2, o_iadd, o_lda .iaload [0, 20], o_ald (.aload_n 0) 0, o_ild (.iload_n 3) 3, o_int (.iconst 3) 3, o_iadd, o_lda .iaload [0, 20], o_ald (.aload_n 0) 0, o_ild (.iload_n 3) 3, o_int (.iconst 4) 4, o_iadd, o_lda .iaload [0, 20], o_cv (.invokevirtual 167) 3 kX3_run 4 0, o_icmpeq 117 1416, o_int (.iconst 0) 0, o_iret 1] else
  if p = 1304 then [o_ald (.aload_n 1) 1, o_ald (.aload_n 0) 0, o_ild (.iload_n 3) 3, o_int (.iconst 1) 1, o_iadd, o_lda .iaload [0, 20], o_ald (.aload_n 0) 0, o_ild (.iload_n 3) 3, o_int (.iconst 2) 2, o_iadd, o_lda .iaload [0, 20], o_ald (.aload_n 0) 0, o_ild (.iload_n 3) 3, o_int (.iconst 3) 3, o_iadd, o_lda .iaload [0, 20], o_ald (.aload_n 0) 0, o_ild (.iload_n 3) 3, o_int (.iconst 4) 4, o_iadd, o_lda .iaload [0, 20], o_ald (.aload_n 0) 0, o_ild (.iload_n 3) 3, o_int (.iconst 5) 5, o_iadd, o_lda .iaload [0, 20], o_cv (.invokevirtual 168) 1 kX1_runs_2 5 0, o_ald (.aload_n 2) 2, o_ald (.aload_n 0) 0, o_ild (.iload_n 3) 3, o_int (.iconst 1) 1, o_iadd, o_lda .iaload [0, 20], o_ald (.aload_n 0) 0, o_ild (.iload_n 3) 3, o_int (.iconst 2) 2, o_iadd, o_lda .iaload [0, 20], o_ald (.aload_n 0) 0, o_ild (.iload_n 3) 3, o_int (.iconst 3) 3, o_iadd, o_lda .iaload [0, 20], o_ald (.aload_n 0) 0, o_ild (.iload_n 3) 3, o_int (.iconst 4) 4, o_iadd, o_lda .iaload [0, 20], o_ald (.aload_n 0) 0, o_ild (.iload_n 3) 3, o_int (.iconst 5) 5, o_iadd, o_lda .iaload [0, 20], o_cv (.invokevirtual 171) 3 kX3_runs 5 0, o_icmpeq 54 1416, o_int (.iconst 0) 0, o_iret 1] else
  if p = 1367 then [o_ald (.aload_n 1) 1, o_cv (.invokevirtual 172) 1 kX1_image 0 0, o_ald (.aload_n 2) 2, o_cv (.invokevirtual 175) 3 kX3_image 0 0, o_icmpeq 41 1416, o_int (.iconst 0) 0, o_iret 1] else
  if p = 1380 then [o_ald (.aload_n 1) 1, o_cv (.invokevirtual 176) 1 kX1_back 0 0, o_ald (.aload_n 2) 2, o_cv (.invokevirtual 179) 3 kX3_back 0 0, o_icmpeq 28 1416, o_int (.iconst 0) 0, o_iret 1] else
  if p = 1393 then [o_ald (.aload_n 1) 1, o_ald (.aload_n 0) 0, o_ild (.iload_n 3) 3, o_int (.iconst 1) 1, o_iadd, o_lda .iaload [0, 20], o_cv (.invokevirtual 180) 1 kX1_about 1 0, o_ald (.aload_n 2) 2, o_ald (.aload_n 0) 0, o_ild (.iload_n 3) 3, o_int (.iconst 1) 1, o_iadd, o_lda .iaload [0, 20], o_cv (.invokevirtual 183) 3 kX3_about 1 0, o_icmpeq 5 1416, o_int (.iconst 0) 0, o_iret 1] else
  if p = 1416 then [o_inc 3 6, o_goto (-1381) 38] else
  if p = 1422 then [o_int (.iconst 1) 1, o_iret 1] else
  []
def mX0_cell : Nat → List tp_Op := fun p => 
  if p = 0 then [o_ild (.iload_n 1) 1, o_ald (.aload_n 0) 0, o_alen, o_icmpge 9 12, o_ald (.aload_n 0) 0, o_ild (.iload_n 1) 1, o_lda .iaload [0, 20], o_goto 4 13] else
  if p = 12 then [o_int (.iconst 0) 0, o_fall 13] else
  if p = 13 then [o_iret 0] else
  []
def mX1_init : Nat → List tp_Op := fun p => 
  if p = 0 then [o_ald (.aload_n 0) 0, o_objinit (.invokespecial 3), o_ald (.aload_n 0) 0, o_new (.new 9) 2 13 [xN, xN, xN, xN, xN, xN, xN, xN, xN, xN, xN, xN, xN], o_dup, o_cp (.invokespecial 11) kX2_init 0 0, o_putf (.putfield 12) 1 0 4, o_ald (.aload_n 0) 0, o_new (.new 9) 2 13 [xN, xN, xN, xN, xN, xN, xN, xN, xN, xN, xN, xN, xN], o_dup, o_cp (.invokespecial 11) kX2_init 0 0, o_putf (.putfield 16) 1 1 4, o_ald (.aload_n 0) 0, o_int (.sipush 300) 300, o_newa (.newarray .byte) 2, o_putf (.putfield 19) 1 5 4, o_ald (.aload_n 0) 0, o_int (.iconst (-1)) (-1), o_putf (.putfield 23) 1 7 0, o_ald (.aload_n 0) 0, o_int (.iconst (-1)) (-1), o_putf (.putfield 27) 1 8 0, o_ald (.aload_n 0) 0, o_int (.bipush 11) 11, o_newa (.newarray .int) 0, o_putf (.putfield 30) 1 9 4, o_ald (.aload_n 0) 0, o_int (.bipush 36) 36, o_newa (.newarray .int) 0, o_putf (.putfield 34) 1 10 4, o_ald (.aload_n 0) 0, o_int (.bipush 12) 12, o_newa (.newarray .int) 0, o_putf (.putfield 37) 1 12 4, o_ald (.aload_n 0) 0, o_int (.bipush 13) 13, o_int (.bipush 36) 36, o_new2 (.multianewarray 40 2), o_putf (.putfield 42) 1 13 4, o_ald (.aload_n 0) 0, o_int (.ldc 45) 86400, o_newa (.newarray .int) 0, o_putf (.putfield 46) 1 14 4, o_ald (.aload_n 0) 0, o_int (.bipush 13) 13, o_int (.iconst 3) 3, o_new2 (.multianewarray 40 2), o_putf (.putfield 49) 1 15 4, o_ald (.aload_n 0) 0, o_int (.iconst 3) 3, o_int (.iconst 4) 4, o_int (.bipush 36) 36, o_new3 (.multianewarray 52 3), o_putf (.putfield 54) 1 17 4, o_ald (.aload_n 0) 0, o_int (.bipush 36) 36, o_newa (.newarray .int) 0, o_putf (.putfield 57) 1 18 4, o_ald (.aload_n 0) 0, o_int (.bipush 36) 36, o_newa (.newarray .int) 0, o_putf (.putfield 60) 1 19 4, o_ald (.aload_n 0) 0, o_int (.iconst 4) 4, o_newa (.newarray .int) 0, o_putf (.putfield 63) 1 20 4, o_ald (.aload_n 0) 0, o_int (.bipush 36) 36, o_newa (.newarray .int) 0, o_putf (.putfield 66) 1 21 4, o_ald (.aload_n 0) 0, o_int (.bipush 36) 36, o_newa (.newarray .int) 0, o_putf (.putfield 69) 1 22 4, o_ald (.aload_n 0) 0, o_int (.iconst 3) 3, o_int (.bipush 6) 6, o_ild (.iload_n 1) 1, o_mmin (.invokestatic 72), o_mmax (.invokestatic 78), o_putf (.putfield 81) 1 2 0, o_ald (.aload_n 0) 0, o_int (.iconst 3) 3, o_int (.bipush 6) 6, o_ild (.iload_n 2) 2, o_mmin (.invokestatic 72), o_mmax (.invokestatic 78), o_putf (.putfield 84) 1 3 0, o_ald (.aload_n 0) 0, o_ald (.aload_n 0) 0, o_getf (.getfield 81) 1 2, o_ald (.aload_n 0) 0, o_getf (.getfield 84) 1 3, o_imul, o_putf (.putfield 87) 1 4 0, o_ald (.aload_n 0) 0, o_getf (.getfield 16) 1 1, o_ald (.aload_n 0) 0, o_getf (.getfield 12) 1 0, o_cv (.invokevirtual 90) 2 kX2_be 1 0, o_vret] else
  []
def mX1_ice : Nat → List tp_Op := fun p => 
  if p = 0 then [o_ald (.aload_n 0) 0, o_ild (.iload_n 1) 1, o_cv (.invokevirtual 98) 1 kX1_isCell 1 0, o_ifeq 13 18, o_ild (.iload_n 2) 2, o_int (.iconst 0) 0, o_int (.bipush 99) 99, o_cs (.invokestatic 94) kX1_in 3 0, o_ifne 5 20, o_fall 18] else
  if p = 18 then [o_int (.iconst 0) 0, o_iret 1] else
  if p = 20 then [o_ald (.aload_n 0) 0, o_getf (.getfield 12) 1 0, o_getf (.getfield 102) 2 1, o_ild (.iload_n 1) 1, o_ild (.iload_n 2) 2, o_sta .iastore [0], o_int (.iconst 1) 1, o_iret 1] else
  []
def mX1_isCell : Nat → List tp_Op := fun p => 
  if p = 0 then [o_ild (.iload_n 1) 1, o_int (.iconst 0) 0, o_ald (.aload_n 0) 0, o_getf (.getfield 87) 1 4, o_int (.iconst 1) 1, o_isub, o_cs (.invokestatic 94) kX1_in 3 0, o_iret 1] else
  []
def mX1_in : Nat → List tp_Op := fun p => 
  if p = 0 then [o_ild (.iload_n 0) 0, o_ild (.iload_n 1) 1, o_icmplt 12 14, o_ild (.iload_n 0) 0, o_ild (.iload_n 2) 2, o_icmpgt 7 14, o_int (.iconst 1) 1, o_goto 4 15] else
  if p = 14 then [o_int (.iconst 0) 0, o_fall 15] else
  if p = 15 then [o_iret 1] else
  []
def mX1_iceAt : Nat → List tp_Op := fun p => 
  if p = 0 then [o_ald (.aload_n 0) 0, o_ild (.iload_n 1) 1, o_cv (.invokevirtual 98) 1 kX1_isCell 1 0, o_ifeq 15 20, o_ald (.aload_n 0) 0, o_getf (.getfield 12) 1 0, o_getf (.getfield 102) 2 1, o_ild (.iload_n 1) 1, o_lda .iaload [0, 20], o_goto 4 21] else
  if p = 20 then [o_int (.iconst (-1)) (-1), o_fall 21] else
  if p = 21 then [o_iret 0] else
  []
def mX1_mark : Nat → List tp_Op := fun p => 
  if p = 0 then [o_ald (.aload_n 0) 0, o_ild (.iload_n 1) 1, o_cv (.invokevirtual 98) 1 kX1_isCell 1 0, o_ifne 5 10, o_int (.iconst 0) 0, o_iret 1] else
  if p = 10 then [o_ild (.iload_n 2) 2, o_ifeq 16 27, o_ald (.aload_n 0) 0, o_getf (.getfield 12) 1 0, o_getf (.getfield 105) 2 7, o_ild (.iload_n 1) 1, o_ild (.iload_n 3) 3, o_sta .bastore [1, 2], o_goto 13 37] else
  if p = 27 then [o_ald (.aload_n 0) 0, o_getf (.getfield 12) 1 0, o_getf (.getfield 109) 2 6, o_ild (.iload_n 1) 1, o_ild (.iload_n 3) 3, o_sta .bastore [1, 2], o_fall 37] else
  if p = 37 then [o_int (.iconst 1) 1, o_iret 1] else
  []
def mX1_edge : Nat → List tp_Op := fun p => 
  if p = 0 then [o_ild (.iload_n 1) 1, o_int (.iconst 0) 0, o_int (.bipush 99) 99, o_cs (.invokestatic 94) kX1_in 3 0, o_ifne 5 12, o_int (.iconst 0) 0, o_iret 1] else
  if p = 12 then [o_ald (.aload_n 0) 0, o_getf (.getfield 12) 1 0, o_getf (.getfield 112) 2 0, o_int (.bipush 8) 8, o_ild (.iload_n 1) 1, o_sta .iastore [0], o_int (.iconst 1) 1, o_iret 1] else
  []
def mX1_drift : Nat → List tp_Op := fun p => 
  if p = 0 then [o_ild (.iload_n 1) 1, o_cs (.invokestatic 115) kX1_isWind 1 0, o_ifeq 21 25, o_ild (.iload_n 2) 2, o_int (.iconst (-1)) (-1), o_int (.iconst 1) 1, o_cs (.invokestatic 94) kX1_in 3 0, o_ifeq 12 25, o_ild (.iload_n 3) 3, o_int (.iconst (-1)) (-1), o_int (.iconst 1) 1, o_cs (.invokestatic 94) kX1_in 3 0, o_ifne 5 27, o_fall 25] else
  if p = 25 then [o_int (.iconst 0) 0, o_iret 1] else
  if p = 27 then [o_ald (.aload_n 0) 0, o_getf (.getfield 12) 1 0, o_getf (.getfield 118) 2 8, o_ild (.iload_n 1) 1, o_lda .aaload [4, 5, 6, 7, 28, 29], o_int (.iconst 0) 0, o_ild (.iload_n 2) 2, o_sta .iastore [0], o_ald (.aload_n 0) 0, o_getf (.getfield 12) 1 0, o_getf (.getfield 118) 2 8, o_ild (.iload_n 1) 1, o_lda .aaload [4, 5, 6, 7, 28, 29], o_int (.iconst 1) 1, o_ild (.iload_n 3) 3, o_sta .iastore [0], o_int (.iconst 1) 1, o_iret 1] else
  []
def mX1_isWind : Nat → List tp_Op := fun p => 
  if p = 0 then [o_ild (.iload_n 0) 0, o_int (.iconst 0) 0, o_int (.iconst 3) 3, o_cs (.invokestatic 94) kX1_in 3 0, o_iret 1] else
  []
def mX1_chances : Nat → List tp_Op := fun p => 
  if p = 0 then [o_int (.iconst 4) 4, o_newa (.newarray .int) 0, o_dup, o_int (.iconst 0) 0, o_ild (.iload_n 2) 2, o_sta .iastore [0], o_dup, o_int (.iconst 1) 1, o_ild (.iload_n 3) 3, o_sta .iastore [0], o_dup, o_int (.iconst 2) 2, o_ild (.iload 4) 4, o_sta .iastore [0], o_dup, o_int (.iconst 3) 3, o_ild (.iload 5) 5, o_sta .iastore [0], o_ast (.astore 6) 6, o_ild (.iload_n 1) 1, o_cs (.invokestatic 115) kX1_isWind 1 0, o_ifne 5 32, o_int (.iconst 0) 0, o_iret 1] else
  if p = 32 then [o_int (.iconst 0) 0, o_ist (.istore 7) 7, o_fall 35] else
  if p = 35 then [o_ild (.iload 7) 7, o_int (.iconst 4) 4, o_icmpge 25 63, o_ald (.aload 6) 6, o_ild (.iload 7) 7, o_lda .iaload [0, 20], o_int (.iconst 0) 0, o_int (.bipush 10) 10, o_cs (.invokestatic 94) kX1_in 3 0, o_ifne 5 57, o_int (.iconst 0) 0, o_iret 1] else
  if p = 57 then [o_inc 7 1, o_goto (-25) 35] else
  if p = 63 then [o_ild (.iload_n 2) 2, o_ild (.iload_n 3) 3, o_iadd, o_ild (.iload 4) 4, o_iadd, o_ild (.iload 5) 5, o_iadd, o_int (.bipush 10) 10, o_icmpeq 5 79, o_int (.iconst 0) 0, o_iret 1] else
  if p = 79 then [o_ald (.aload 6) 6, o_int (.iconst 0) 0, o_ald (.aload_n 0) 0, o_getf (.getfield 12) 1 0, o_getf (.getfield 121) 2 9, o_ild (.iload_n 1) 1, o_lda .aaload [4, 5, 6, 7, 28, 29], o_int (.iconst 0) 0, o_int (.iconst 4) 4, o_acopy (.invokestatic 124), o_int (.iconst 1) 1, o_iret 1] else
  []
def mX1_ship : Nat → List tp_Op := fun p => 
  if p = 0 then [o_ild (.iload_n 1) 1, o_int (.iconst 0) 0, o_int (.iconst 1) 1, o_cs (.invokestatic 94) kX1_in 3 0, o_ifeq 31 37, o_ild (.iload_n 3) 3, o_int (.iconst 0) 0, o_int (.bipush 99) 99, o_cs (.invokestatic 94) kX1_in 3 0, o_ifeq 21 37, o_ald (.aload_n 0) 0, o_ild (.iload_n 2) 2, o_cv (.invokevirtual 98) 1 kX1_isCell 1 0, o_ifne 15 39, o_ild (.iload_n 1) 1, o_int (.iconst 1) 1, o_icmpne 8 37, o_ild (.iload_n 2) 2, o_int (.iconst (-1)) (-1), o_icmpeq 5 39, o_fall 37] else
  if p = 37 then [o_int (.iconst 0) 0, o_iret 1] else
  if p = 39 then [o_int (.iconst 4) 4, o_newa (.newarray .int) 0, o_dup, o_int (.iconst 0) 0, o_ild (.iload_n 2) 2, o_sta .iastore [0], o_dup, o_int (.iconst 1) 1, o_ild (.iload_n 3) 3, o_sta .iastore [0], o_dup, o_int (.iconst 2) 2, o_int (.iconst 0) 0, o_sta .iastore [0], o_dup, o_int (.iconst 3) 3, o_int (.iconst 0) 0, o_sta .iastore [0], o_ast (.astore 4) 4, o_ald (.aload 4) 4, o_int (.iconst 0) 0, o_ald (.aload_n 0) 0, o_getf (.getfield 12) 1 0, o_getf (.getfield 130) 2 10, o_ild (.iload_n 1) 1, o_lda .aaload [4, 5, 6, 7, 28, 29], o_int (.iconst 0) 0, o_int (.iconst 4) 4, o_acopy (.invokestatic 124), o_int (.iconst 1) 1, o_iret 1] else
  []
def mX1_costs : Nat → List tp_Op := fun p => 
  if p = 0 then [o_ild (.iload_n 1) 1, o_int (.iconst 0) 0, o_int (.bipush 99) 99, o_cs (.invokestatic 94) kX1_in 3 0, o_ifeq 23 30, o_ild (.iload_n 2) 2, o_int (.iconst 0) 0, o_int (.bipush 99) 99, o_cs (.invokestatic 94) kX1_in 3 0, o_ifeq 13 30, o_ild (.iload_n 3) 3, o_int (.iconst 0) 0, o_int (.bipush 99) 99, o_cs (.invokestatic 94) kX1_in 3 0, o_ifne 5 32, o_fall 30] else
  if p = 30 then [o_int (.iconst 0) 0, o_iret 1] else
  if p = 32 then [o_int (.iconst 4) 4, o_newa (.newarray .int) 0, o_dup, o_int (.iconst 0) 0, o_ild (.iload_n 1) 1, o_sta .iastore [0], o_dup, o_int (.iconst 1) 1, o_ild (.iload_n 2) 2, o_sta .iastore [0], o_dup, o_int (.iconst 2) 2, o_int (.iconst 0) 0, o_sta .iastore [0], o_dup, o_int (.iconst 3) 3, o_ild (.iload_n 3) 3, o_sta .iastore [0], o_ast (.astore 4) 4, o_ald (.aload 4) 4, o_int (.iconst 0) 0, o_ald (.aload_n 0) 0, o_getf (.getfield 12) 1 0, o_getf (.getfield 133) 2 2, o_int (.iconst 0) 0, o_int (.iconst 4) 4, o_acopy (.invokestatic 124), o_int (.iconst 1) 1, o_iret 1] else
  []
def mX1_wind : Nat → List tp_Op := fun p => 
  if p = 0 then [o_ild (.iload_n 1) 1, o_cs (.invokestatic 115) kX1_isWind 1 0, o_ifne 5 9, o_int (.iconst 0) 0, o_iret 1] else
  if p = 9 then [o_ald (.aload_n 0) 0, o_getf (.getfield 12) 1 0, o_getf (.getfield 112) 2 0, o_int (.iconst 1) 1, o_ild (.iload_n 1) 1, o_sta .iastore [0], o_int (.iconst 1) 1, o_iret 1] else
  []
def mX1_feed : Nat → List tp_Op := fun p => 
  if p = 0 then [o_ald (.aload_n 0) 0, o_getf (.getfield 136) 1 6, o_int (.bipush 20) 20, o_iadd, o_int (.sipush 300) 300, o_icmple 5 15, o_int (.iconst (-1)) (-1), o_iret 0] else
  if p = 15 then [o_ald (.aload_n 0) 0, o_ild (.iload_n 1) 1, o_cv (.invokevirtual 139) 1 kX1_put 1 0, o_ald (.aload_n 0) 0, o_ild (.iload_n 2) 2, o_cv (.invokevirtual 139) 1 kX1_put 1 0, o_ald (.aload_n 0) 0, o_ild (.iload_n 3) 3, o_cv (.invokevirtual 139) 1 kX1_put 1 0, o_ald (.aload_n 0) 0, o_ild (.iload 4) 4, o_cv (.invokevirtual 139) 1 kX1_put 1 0, o_ald (.aload_n 0) 0, o_ild (.iload 5) 5, o_cv (.invokevirtual 139) 1 kX1_put 1 0, o_ald (.aload_n 0) 0, o_getf (.getfield 136) 1 6, o_iret 0] else
  []
def mX1_put : Nat → List tp_Op := fun p => 
  if p = 0 then [o_int (.bipush 24) 24, o_ist (.istore_n 2) 2, o_fall 3] else
  if p = 3 then [o_ild (.iload_n 2) 2, o_iflt 32 36, o_ald (.aload_n 0) 0, o_getf (.getfield 19) 1 5, o_ald (.aload_n 0) 0, o_getf (.getfield 136) 1 6, o_ild (.iload_n 1) 1, o_ild (.iload_n 2) 2, o_ishr, o_i2b, o_sta .bastore [1, 2], o_ald (.aload_n 0) 0, o_dup, o_getf (.getfield 136) 1 6, o_int (.iconst 1) 1, o_iadd, o_putf (.putfield 136) 1 6 0, o_inc 2 (-8), o_goto (-30) 3] else
  if p = 36 then [o_vret] else
  []
def mX1_end : Nat → List tp_Op := fun p => 
  if p = 0 then [o_ild (.iload_n 1) 1, o_int (.iconst 0) 0, o_ald (.aload_n 0) 0, o_getf (.getfield 136) 1 6, o_cs (.invokestatic 94) kX1_in 3 0, o_ifne 5 14, o_int (.iconst (-1)) (-1), o_iret 0] else
  if p = 14 then [o_ald (.aload_n 0) 0, o_ild (.iload_n 1) 1, o_putf (.putfield 136) 1 6 0, o_ild (.iload_n 1) 1, o_iret 0] else
  []
def mX1_text : Nat → List tp_Op := fun p => 
  if p = 0 then [o_ald (.aload_n 0) 0, o_getf (.getfield 12) 1 0, o_getf (.getfield 112) 2 0, o_int (.iconst 2) 2, o_lda .iaload [0, 20], o_int (.iconst 4) 4, o_icmpne 5 15, o_int (.iconst (-1)) (-1), o_iret 0] else
  if p = 15 then [o_ald (.aload_n 0) 0, o_getf (.getfield 136) 1 6, o_ist (.istore_n 1) 1, o_ald (.aload_n 0) 0, o_int (.iconst 0) 0, o_putf (.putfield 23) 1 7 0, o_ald (.aload_n 0) 0, o_int (.iconst (-1)) (-1), o_putf (.putfield 27) 1 8 0, o_ald (.aload_n 0) 0, o_getf (.getfield 12) 1 0, o_getf (.getfield 143) 2 12, o_ald (.aload_n 0) 0, o_getf (.getfield 12) 1 0, o_getf (.getfield 112) 2 0, o_int (.iconst 2) 2, o_lda .iaload [0, 20], o_new (.new 147) 4 8 [xN, xI 0, xI 0, xI 0, xI 0, xI 0, xI 0, xI 0], o_dup, o_ald (.aload_n 0) 0, o_getf (.getfield 19) 1 5, o_ild (.iload_n 1) 1, o_cp (.invokespecial 149) kX4_init 2 0, o_cv (.invokevirtual 152) 4 kX4_read 0 72, o_aast [7] [5], o_ald (.aload_n 0) 0, o_int (.iconst 0) 0, o_putf (.putfield 136) 1 6 0, o_goto 39 106] else
  if p = 70 then [o_ast (.astore_n 2) 2, o_ald (.aload_n 0) 0, o_ald (.aload_n 2) 2, o_getf (.getfield 158) 6 6, o_putf (.putfield 23) 1 7 0, o_ald (.aload_n 0) 0, o_ald (.aload_n 2) 2, o_getf (.getfield 159) 6 7, o_putf (.putfield 27) 1 8 0, o_int (.iconst (-1)) (-1), o_ist (.istore_n 3) 3, o_ald (.aload_n 0) 0, o_int (.iconst 0) 0, o_putf (.putfield 136) 1 6 0, o_ild (.iload_n 3) 3, o_iret 0] else
  if p = 96 then [o_ast (.astore 4) 4, o_ald (.aload_n 0) 0, o_int (.iconst 0) 0, o_putf (.putfield 136) 1 6 0, o_ald (.aload 4) 4, o_dead .athrow, o_fall 106] else
  if p = 106 then [o_ald (.aload_n 0) 0, o_getf (.getfield 12) 1 0, o_getf (.getfield 112) 2 0, o_int (.iconst 2) 2, o_dup2, o_lda .iaload [0, 20], o_int (.iconst 1) 1, o_iadd, o_sta .iastore [0], o_ald (.aload_n 0) 0, o_getf (.getfield 12) 1 0, o_getf (.getfield 112) 2 0, o_int (.iconst 2) 2, o_lda .iaload [0, 20], o_int (.iconst 1) 1, o_isub, o_iret 0] else
  []
def mX1_fault : Nat → List tp_Op := fun p => 
  if p = 0 then [o_ild (.iload_n 1) 1, o_ifne 10 11, o_ald (.aload_n 0) 0, o_getf (.getfield 23) 1 7, o_goto 16 24] else
  if p = 11 then [o_ild (.iload_n 1) 1, o_int (.iconst 1) 1, o_icmpne 10 23, o_ald (.aload_n 0) 0, o_getf (.getfield 27) 1 8, o_goto 4 24] else
  if p = 23 then [o_int (.iconst (-1)) (-1), o_fall 24] else
  if p = 24 then [o_iret 0] else
  []
def mX1_by : Nat → List tp_Op := fun p => 
  if p = 0 then [o_ild (.iload_n 1) 1, o_int (.iconst (-1)) (-1), o_icmpeq 13 15, o_ald (.aload_n 0) 0, o_ild (.iload_n 1) 1, o_cv (.invokevirtual 162) 1 kX1_isText 1 0, o_ifne 5 15, o_int (.iconst 0) 0, o_iret 1] else
  if p = 15 then [o_ald (.aload_n 0) 0, o_getf (.getfield 12) 1 0, o_getf (.getfield 112) 2 0, o_int (.iconst 3) 3, o_ild (.iload_n 1) 1, o_sta .iastore [0], o_int (.iconst 1) 1, o_iret 1] else
  []
def mX1_isText : Nat → List tp_Op := fun p => 
  if p = 0 then [o_ild (.iload_n 1) 1, o_int (.iconst 0) 0, o_ald (.aload_n 0) 0, o_getf (.getfield 12) 1 0, o_getf (.getfield 112) 2 0, o_int (.iconst 2) 2, o_lda .iaload [0, 20], o_int (.iconst 1) 1, o_isub, o_cs (.invokestatic 94) kX1_in 3 0, o_iret 1] else
  []
def mX1_can : Nat → List tp_Op := fun p => 
  if p = 0 then [o_ild (.iload_n 1) 1, o_int (.iconst 0) 0, o_int (.iconst 1) 1, o_cs (.invokestatic 94) kX1_in 3 0, o_ifeq 10 16, o_ild (.iload_n 2) 2, o_cs (.invokestatic 229) kX1_isOrder 1 0, o_ifne 5 18, o_fall 16] else
  if p = 16 then [o_int (.iconst 0) 0, o_iret 1] else
  if p = 18 then [o_ald (.aload_n 0) 0, o_getf (.getfield 12) 1 0, o_getf (.getfield 130) 2 10, o_ild (.iload_n 1) 1, o_lda .aaload [4, 5, 6, 7, 28, 29], o_ast (.astore_n 3) 3, o_ald (.aload_n 3) 3, o_int (.iconst 0) 0, o_lda .iaload [0, 20], o_int (.iconst (-1)) (-1), o_icmpeq 56 88, o_ald (.aload_n 3) 3, o_int (.iconst 3) 3, o_lda .iaload [0, 20], o_ifne 50 88, o_ald (.aload_n 0) 0, o_ild (.iload_n 2) 2, o_ald (.aload_n 3) 3, o_int (.iconst 0) 0, o_lda .iaload [0, 20], o_ald (.aload_n 3) 3, o_int (.iconst 1) 1, o_lda .iaload [0, 20], o_ald (.aload_n 3) 3, o_int (.iconst 2) 2, o_lda .iaload [0, 20], o_ald (.aload_n 0) 0, o_getf (.getfield 12) 1 0, o_getf (.getfield 102) 2 1, o_ald (.aload_n 0) 0, o_getf (.getfield 12) 1 0, o_getf (.getfield 112) 2 0, o_int (.iconst 1) 1, o_lda .iaload [0, 20], o_ald (.aload_n 0) 0, o_getf (.getfield 12) 1 0, o_getf (.getfield 112) 2 0, o_int (.iconst 0) 0, o_lda .iaload [0, 20], o_cv (.invokevirtual 232) 1 kX1_costOf 7 0, o_int (.iconst (-1)) (-1), o_icmpeq 7 88, o_int (.iconst 1) 1, o_goto 4 89] else
  if p = 88 then [o_int (.iconst 0) 0, o_fall 89] else
  if p = 89 then [o_iret 1] else
  []
def mX1_isOrder : Nat → List tp_Op := fun p => 
  if p = 0 then [o_ild (.iload_n 0) 0, o_int (.iconst 0) 0, o_int (.bipush 7) 7, o_cs (.invokestatic 94) kX1_in 3 0, o_iret 1] else
  []
def mX1_costOf : Nat → List tp_Op := fun p => 
  if p = 0 then [o_ild (.iload_n 1) 1, o_int (.bipush 6) 6, o_icmpne 5 8, o_int (.iconst 0) 0, o_iret 0] else
  if p = 8 then [o_ild (.iload_n 1) 1, o_int (.bipush 7) 7, o_icmpne 7 18, o_int (.iconst 1) 1, o_goto 4 19] else
  if p = 18 then [o_int (.iconst 0) 0, o_fall 19] else
  if p = 19 then [o_ild (.iload 4) 4, o_int (.iconst 1) 1, o_icmpne 7 29, o_int (.iconst 1) 1, o_goto 4 30] else
  if p = 29 then [o_int (.iconst 0) 0, o_fall 30] else
  if p = 30 then [o_icmpeq 5 35, o_int (.iconst (-1)) (-1), o_iret 0] else
  if p = 35 then [o_int (.iconst (-1)) (-1), o_ist (.istore 8) 8, o_ild (.iload_n 1) 1, o_int (.iconst 4) 4, o_icmplt 19 59, o_ald (.aload_n 0) 0, o_getf (.getfield 12) 1 0, o_getf (.getfield 133) 2 2, o_ild (.iload_n 1) 1, o_int (.iconst 4) 4, o_isub, o_lda .iaload [0, 20], o_ist (.istore 8) 8, o_goto 55 111] else
  if p = 59 then [o_ald (.aload_n 0) 0, o_ild (.iload_n 2) 2, o_ild (.iload_n 1) 1, o_cs (.invokestatic 169) kX1_dx 1 0, o_ild (.iload_n 1) 1, o_cs (.invokestatic 173) kX1_dy 1 0, o_cv (.invokevirtual 165) 1 kX1_beside 3 0, o_ist (.istore 9) 9, o_ild (.iload 9) 9, o_int (.iconst (-1)) (-1), o_icmpeq 18 95, o_ald (.aload_n 0) 0, o_ald (.aload 5) 5, o_ild (.iload 9) 9, o_ild (.iload 6) 6, o_ild (.iload 7) 7, o_cv (.invokevirtual 222) 1 kX1_may 4 0, o_ifne 5 97, o_fall 95] else
  if p = 95 then [o_int (.iconst (-1)) (-1), o_iret 0] else
  if p = 97 then [o_ald (.aload_n 0) 0, o_ald (.aload 5) 5, o_ild (.iload 9) 9, o_ild (.iload 6) 6, o_ild (.iload 7) 7, o_cv (.invokevirtual 225) 1 kX1_costOf_2 4 0, o_ist (.istore 8) 8, o_fall 111] else
  if p = 111 then [o_ild (.iload 8) 8, o_ild (.iload_n 3) 3, o_icmpgt 8 122, o_ild (.iload 8) 8, o_goto 4 123] else
  if p = 122 then [o_int (.iconst (-1)) (-1), o_fall 123] else
  if p = 123 then [o_iret 0] else
  []
def mX1_dx : Nat → List tp_Op := fun p => 
  if p = 0 then [o_ild (.iload_n 0) 0, o_int (.iconst 1) 1, o_icmpne 7 9, o_int (.iconst 1) 1, o_goto 13 19] else
  if p = 9 then [o_ild (.iload_n 0) 0, o_int (.iconst 3) 3, o_icmpne 7 18, o_int (.iconst (-1)) (-1), o_goto 4 19] else
  if p = 18 then [o_int (.iconst 0) 0, o_fall 19] else
  if p = 19 then [o_iret 0] else
  []
def mX1_dy : Nat → List tp_Op := fun p => 
  if p = 0 then [o_ild (.iload_n 0) 0, o_ifne 7 8, o_int (.iconst (-1)) (-1), o_goto 13 18] else
  if p = 8 then [o_ild (.iload_n 0) 0, o_int (.iconst 2) 2, o_icmpne 7 17, o_int (.iconst 1) 1, o_goto 4 18] else
  if p = 17 then [o_int (.iconst 0) 0, o_fall 18] else
  if p = 18 then [o_iret 0] else
  []
def mX1_beside : Nat → List tp_Op := fun p => 
  if p = 0 then [o_ild (.iload_n 1) 1, o_ald (.aload_n 0) 0, o_getf (.getfield 81) 1 2, o_irem, o_ild (.iload_n 2) 2, o_iadd, o_ist (.istore 4) 4, o_ild (.iload_n 1) 1, o_ald (.aload_n 0) 0, o_getf (.getfield 81) 1 2, o_idiv, o_ild (.iload_n 3) 3, o_iadd, o_ist (.istore 5) 5, o_ild (.iload 4) 4, o_int (.iconst 0) 0, o_ald (.aload_n 0) 0, o_getf (.getfield 81) 1 2, o_int (.iconst 1) 1, o_isub, o_cs (.invokestatic 94) kX1_in 3 0, o_ifeq 31 63, o_ild (.iload 5) 5, o_int (.iconst 0) 0, o_ald (.aload_n 0) 0, o_getf (.getfield 84) 1 3, o_int (.iconst 1) 1, o_isub, o_cs (.invokestatic 94) kX1_in 3 0, o_ifeq 16 63, o_ild (.iload 4) 4, o_ald (.aload_n 0) 0, o_getf (.getfield 81) 1 2, o_ild (.iload 5) 5, o_imul, o_iadd, o_goto 4 64] else
  if p = 63 then [o_int (.iconst (-1)) (-1), o_fall 64] else
  if p = 64 then [o_iret 0] else
  []
def mX1_may : Nat → List tp_Op := fun p => 
  if p = 0 then [o_ald (.aload_n 0) 0, o_cv (.invokevirtual 176) 1 kX1_rules 0 0, o_ast (.astore 5) 5, o_ald (.aload 5) 5, o_ifnull 14 22, o_ald (.aload 5) 5, o_getf (.getfield 179) 5 0, o_cv (.invokevirtual 185) 15 kJ4_isEmpty 0 0, o_ifeq 17 36, o_fall 22] else
  if p = 22 then [o_ald (.aload_n 1) 1, o_ild (.iload_n 2) 2, o_lda .iaload [0, 20], o_int (.bipush 30) 30, o_icmpgt 7 34, o_int (.iconst 1) 1, o_goto 4 35] else
  if p = 34 then [o_int (.iconst 0) 0, o_fall 35] else
  if p = 35 then [o_iret 1] else
  if p = 36 then [o_ald (.aload_n 0) 0, o_ald (.aload_n 1) 1, o_ild (.iload_n 2) 2, o_ild (.iload_n 3) 3, o_ild (.iload 4) 4, o_cv (.invokevirtual 191) 1 kX1_names 4 0, o_ald (.aload 5) 5, o_getf (.getfield 179) 5 0, o_ald (.aload_n 0) 0, o_getf (.getfield 30) 1 9, o_cs (.invokestatic 194) kX5_some 2 0, o_iret 1] else
  []
def mX1_rules : Nat → List tp_Op := fun p => 
  if p = 0 then [o_ald (.aload_n 0) 0, o_getf (.getfield 12) 1 0, o_getf (.getfield 112) 2 0, o_int (.iconst 3) 3, o_lda .iaload [0, 20], o_int (.iconst (-1)) (-1), o_icmpne 7 17, o_null, o_goto 20 34] else
  if p = 17 then [o_ald (.aload_n 0) 0, o_getf (.getfield 12) 1 0, o_getf (.getfield 143) 2 12, o_ald (.aload_n 0) 0, o_getf (.getfield 12) 1 0, o_getf (.getfield 112) 2 0, o_int (.iconst 3) 3, o_lda .iaload [0, 20], o_lda .aaload [4, 5, 6, 7, 28, 29], o_fall 34] else
  if p = 34 then [o_aret] else
  []
def mX1_names : Nat → List tp_Op := fun p => 
  if p = 0 then [o_ald (.aload_n 0) 0, o_getf (.getfield 30) 1 9, o_int (.iconst 0) 0, o_ald (.aload_n 1) 1, o_ild (.iload_n 2) 2, o_lda .iaload [0, 20], o_sta .iastore [0], o_int (.iconst 0) 0, o_ist (.istore 5) 5, o_fall 12] else
  if p = 12 then [o_ild (.iload 5) 5, o_int (.iconst 4) 4, o_icmpge 58 73, o_ald (.aload_n 0) 0, o_ild (.iload_n 2) 2, o_ild (.iload 5) 5, o_cs (.invokestatic 169) kX1_dx 1 0, o_ild (.iload 5) 5, o_cs (.invokestatic 173) kX1_dy 1 0, o_cv (.invokevirtual 165) 1 kX1_beside 3 0, o_ist (.istore 6) 6, o_ald (.aload_n 0) 0, o_getf (.getfield 30) 1 9, o_int (.iconst 1) 1, o_ild (.iload 5) 5, o_iadd, o_ild (.iload 6) 6, o_int (.iconst (-1)) (-1), o_icmpne 16 62, o_ald (.aload_n 0) 0, o_getf (.getfield 12) 1 0, o_getf (.getfield 112) 2 0, o_int (.bipush 8) 8, o_lda .iaload [0, 20], o_goto 7 66] else
  if p = 62 then [o_ald (.aload_n 1) 1, o_ild (.iload 6) 6, o_lda .iaload [0, 20], o_fall 66] else
  if p = 66 then [o_sta .iastore [0], o_inc 5 1, o_goto (-58) 12] else
  if p = 73 then [o_ald (.aload_n 0) 0, o_getf (.getfield 30) 1 9, o_int (.iconst 5) 5, o_ild (.iload_n 2) 2, o_ald (.aload_n 0) 0, o_getf (.getfield 81) 1 2, o_irem, o_sta .iastore [0], o_ald (.aload_n 0) 0, o_getf (.getfield 30) 1 9, o_int (.bipush 6) 6, o_ild (.iload_n 2) 2, o_ald (.aload_n 0) 0, o_getf (.getfield 81) 1 2, o_idiv, o_sta .iastore [0], o_ald (.aload_n 0) 0, o_getf (.getfield 30) 1 9, o_int (.bipush 7) 7, o_ild (.iload_n 3) 3, o_sta .iastore [0], o_ald (.aload_n 0) 0, o_getf (.getfield 30) 1 9, o_int (.bipush 8) 8, o_ild (.iload 4) 4, o_sta .iastore [0], o_vret] else
  []
def mX1_costOf_2 : Nat → List tp_Op := fun p => 
  if p = 0 then [o_ald (.aload_n 0) 0, o_cv (.invokevirtual 176) 1 kX1_rules 0 0, o_ast (.astore 5) 5, o_ald (.aload 5) 5, o_ifnull 11 19, o_ald (.aload 5) 5, o_getf (.getfield 198) 5 4, o_ifnon 12 28, o_fall 19] else
  if p = 19 then [o_int (.iconst 1) 1, o_ald (.aload_n 1) 1, o_ild (.iload_n 2) 2, o_lda .iaload [0, 20], o_int (.bipush 10) 10, o_idiv, o_iadd, o_iret 0] else
  if p = 28 then [o_ald (.aload_n 0) 0, o_ald (.aload_n 1) 1, o_ild (.iload_n 2) 2, o_ild (.iload_n 3) 3, o_ild (.iload 4) 4, o_cv (.invokevirtual 191) 1 kX1_names 4 0, o_lng (.lconst 0) 0, o_lng (.ldc2_w 201) 99, o_ald (.aload 5) 5, o_getf (.getfield 198) 5 4, o_ald (.aload_n 0) 0, o_getf (.getfield 30) 1 9, o_ci (.invokeinterface 203 2) [(8, kX8_of), (9, kX9_of), (10, kX10_of), (11, kX11_of)] 1 0, o_lmin (.invokestatic 209), o_lmax (.invokestatic 212), o_l2i, o_iret 0] else
  []
def mX1_watch : Nat → List tp_Op := fun p => 
  if p = 0 then [o_ild (.iload_n 1) 1, o_cs (.invokestatic 115) kX1_isWind 1 0, o_ifeq 37 41, o_ild (.iload_n 2) 2, o_int (.iconst (-1)) (-1), o_int (.bipush 7) 7, o_cs (.invokestatic 94) kX1_in 3 0, o_ifeq 27 41, o_ild (.iload_n 3) 3, o_int (.iconst (-1)) (-1), o_int (.bipush 7) 7, o_cs (.invokestatic 94) kX1_in 3 0, o_ifeq 17 41, o_ald (.aload_n 0) 0, o_getf (.getfield 12) 1 0, o_getf (.getfield 112) 2 0, o_int (.iconst 0) 0, o_lda .iaload [0, 20], o_int (.bipush 99) 99, o_icmpne 5 43, o_fall 41] else
  if p = 41 then [o_int (.iconst (-1)) (-1), o_iret 0] else
  if p = 43 then [o_ald (.aload_n 0) 0, o_getf (.getfield 12) 1 0, o_getf (.getfield 130) 2 10, o_int (.iconst 0) 0, o_lda .aaload [4, 5, 6, 7, 28, 29], o_int (.iconst 0) 0, o_lda .iaload [0, 20], o_ist (.istore 4) 4, o_ald (.aload_n 0) 0, o_int (.iconst 0) 0, o_ild (.iload_n 2) 2, o_cv (.invokevirtual 239) 1 kX1_does 2 0, o_ist (.istore 5) 5, o_ald (.aload_n 0) 0, o_getf (.getfield 12) 1 0, o_getf (.getfield 102) 2 1, o_ild (.iload 4) 4, o_lda .iaload [0, 20], o_ist (.istore 6) 6, o_ild (.iload 5) 5, o_ifeq 19 97, o_ild (.iload_n 2) 2, o_int (.iconst 4) 4, o_icmpge 14 97, o_ald (.aload_n 0) 0, o_getf (.getfield 12) 1 0, o_getf (.getfield 102) 2 1, o_ild (.iload 4) 4, o_int (.iconst 0) 0, o_sta .iastore [0], o_fall 97] else
  if p = 97 then [o_ald (.aload_n 0) 0, o_int (.iconst 1) 1, o_ild (.iload_n 3) 3, o_cv (.invokevirtual 239) 1 kX1_does 2 0, o_ist (.istore 7) 7, o_ald (.aload_n 0) 0, o_getf (.getfield 12) 1 0, o_getf (.getfield 102) 2 1, o_ild (.iload 4) 4, o_ild (.iload 6) 6, o_sta .iastore [0], o_ald (.aload_n 0) 0, o_ald (.aload_n 0) 0, o_getf (.getfield 12) 1 0, o_getf (.getfield 102) 2 1, o_ald (.aload_n 0) 0, o_getf (.getfield 54) 1 17, o_int (.iconst 0) 0, o_lda .aaload [4, 5, 6, 7, 28, 29], o_int (.iconst 0) 0, o_lda .aaload [4, 5, 6, 7, 28, 29], o_ild (.iload_n 1) 1, o_ald (.aload_n 0) 0, o_getf (.getfield 12) 1 0, o_getf (.getfield 112) 2 0, o_int (.iconst 0) 0, o_lda .iaload [0, 20], o_cv (.invokevirtual 242) 1 kX1_goes 4 0, o_ald (.aload_n 0) 0, o_getf (.getfield 54) 1 17, o_int (.iconst 0) 0, o_lda .aaload [4, 5, 6, 7, 28, 29], o_int (.iconst 0) 0, o_lda .aaload [4, 5, 6, 7, 28, 29], o_int (.iconst 0) 0, o_ald (.aload_n 0) 0, o_getf (.getfield 12) 1 0, o_getf (.getfield 102) 2 1, o_int (.iconst 0) 0, o_ald (.aload_n 0) 0, o_getf (.getfield 87) 1 4, o_acopy (.invokestatic 124), o_int (.iconst 0) 0, o_ist (.istore 8) 8, o_fall 173] else
  if p = 173 then [o_ild (.iload 8) 8, o_int (.iconst 2) 2, o_icmpge 139 315, o_ald (.aload_n 0) 0, o_getf (.getfield 12) 1 0, o_getf (.getfield 130) 2 10, o_ild (.iload 8) 8, o_lda .aaload [4, 5, 6, 7, 28, 29], o_ast (.astore 9) 9, o_ald (.aload 9) 9, o_int (.iconst 0) 0, o_lda .iaload [0, 20], o_int (.iconst (-1)) (-1), o_icmpeq 113 309, o_ald (.aload 9) 9, o_int (.iconst 3) 3, o_lda .iaload [0, 20], o_ifeq 6 209, o_goto 103 309] else
  if p = 209 then [o_ild (.iload 8) 8, o_ifne 7 218, o_ild (.iload_n 2) 2, o_goto 4 219] else
  if p = 218 then [o_ild (.iload_n 3) 3, o_fall 219] else
  if p = 219 then [o_ist (.istore 10) 10, o_ild (.iload 8) 8, o_ifne 11 234, o_ild (.iload 5) 5, o_ifeq 27 255, o_goto 8 239] else
  if p = 234 then [o_ild (.iload 7) 7, o_ifeq 19 255, o_fall 239] else
  if p = 239 then [o_ild (.iload 10) 10, o_int (.iconst 4) 4, o_icmplt 9 251, o_ild (.iload 10) 10, o_int (.iconst 5) 5, o_icmpne 7 255, o_fall 251] else
  if p = 251 then [o_int (.iconst 1) 1, o_goto 4 256] else
  if p = 255 then [o_int (.iconst 0) 0, o_fall 256] else
  if p = 256 then [o_ist (.istore 11) 11, o_ild (.iload 11) 11, o_ifne 16 276, o_ald (.aload 9) 9, o_int (.iconst 0) 0, o_ald (.aload_n 0) 0, o_ald (.aload 9) 9, o_int (.iconst 0) 0, o_lda .iaload [0, 20], o_ild (.iload_n 1) 1, o_cv (.invokevirtual 246) 1 kX1_drifts 2 0, o_sta .iastore [0], o_fall 276] else
  if p = 276 then [o_ald (.aload_n 0) 0, o_ald (.aload_n 0) 0, o_getf (.getfield 12) 1 0, o_getf (.getfield 102) 2 1, o_ald (.aload 9) 9, o_int (.iconst 0) 0, o_lda .iaload [0, 20], o_ild (.iload_n 1) 1, o_ald (.aload_n 0) 0, o_getf (.getfield 12) 1 0, o_getf (.getfield 112) 2 0, o_int (.iconst 0) 0, o_lda .iaload [0, 20], o_cv (.invokevirtual 249) 1 kX1_nips 4 0, o_ifeq 8 309, o_ald (.aload 9) 9, o_int (.iconst 3) 3, o_int (.iconst 2) 2, o_sta .iastore [0], o_fall 309] else
  if p = 309 then [o_inc 8 1, o_goto (-139) 173] else
  if p = 315 then [o_int (.iconst 0) 0, o_ist (.istore 8) 8, o_fall 318] else
  if p = 318 then [o_ild (.iload 8) 8, o_ald (.aload_n 0) 0, o_getf (.getfield 12) 1 0, o_getf (.getfield 112) 2 0, o_int (.bipush 7) 7, o_lda .iaload [0, 20], o_icmpge 75 405, o_ald (.aload_n 0) 0, o_getf (.getfield 12) 1 0, o_getf (.getfield 251) 2 11, o_ild (.iload 8) 8, o_lda .aaload [4, 5, 6, 7, 28, 29], o_int (.iconst 0) 0, o_lda .iaload [0, 20], o_int (.iconst (-1)) (-1), o_icmpeq 53 399, o_ald (.aload_n 0) 0, o_getf (.getfield 12) 1 0, o_getf (.getfield 251) 2 11, o_ild (.iload 8) 8, o_lda .aaload [4, 5, 6, 7, 28, 29], o_int (.iconst 0) 0, o_ald (.aload_n 0) 0, o_ald (.aload_n 0) 0, o_getf (.getfield 12) 1 0, o_getf (.getfield 251) 2 11, o_ild (.iload 8) 8, o_lda .aaload [4, 5, 6, 7, 28, 29], o_int (.iconst 0) 0, o_lda .iaload [0, 20], o_ald (.aload_n 0) 0, o_getf (.getfield 12) 1 0, o_getf (.getfield 118) 2 8, o_ild (.iload_n 1) 1, o_lda .aaload [4, 5, 6, 7, 28, 29], o_int (.iconst 0) 0, o_lda .iaload [0, 20], o_ald (.aload_n 0) 0, o_getf (.getfield 12) 1 0, o_getf (.getfield 118) 2 8, o_ild (.iload_n 1) 1, o_lda .aaload [4, 5, 6, 7, 28, 29], o_int (.iconst 1) 1, o_lda .iaload [0, 20], o_cv (.invokevirtual 165) 1 kX1_beside 3 0, o_sta .iastore [0], o_fall 399] else
  if p = 399 then [o_inc 8 1, o_goto (-84) 318] else
  if p = 405 then [o_ald (.aload_n 0) 0, o_getf (.getfield 12) 1 0, o_getf (.getfield 112) 2 0, o_int (.iconst 1) 1, o_ild (.iload_n 1) 1, o_sta .iastore [0], o_ald (.aload_n 0) 0, o_getf (.getfield 12) 1 0, o_getf (.getfield 112) 2 0, o_int (.iconst 0) 0, o_dup2, o_lda .iaload [0, 20], o_int (.iconst 1) 1, o_iadd, o_sta .iastore [0], o_ild (.iload 5) 5, o_ifeq 7 437, o_int (.iconst 1) 1, o_goto 4 438] else
  if p = 437 then [o_int (.iconst 0) 0, o_fall 438] else
  if p = 438 then [o_ild (.iload 7) 7, o_ifeq 7 447, o_int (.iconst 2) 2, o_goto 4 448] else
  if p = 447 then [o_int (.iconst 0) 0, o_fall 448] else
  if p = 448 then [o_iadd, o_iret 0] else
  []
def mX1_does : Nat → List tp_Op := fun p => 
  if p = 0 then [o_ald (.aload_n 0) 0, o_getf (.getfield 12) 1 0, o_getf (.getfield 130) 2 10, o_ild (.iload_n 1) 1, o_lda .aaload [4, 5, 6, 7, 28, 29], o_ast (.astore_n 3) 3, o_ild (.iload_n 2) 2, o_cs (.invokestatic 229) kX1_isOrder 1 0, o_ifeq 12 26, o_ald (.aload_n 0) 0, o_ild (.iload_n 1) 1, o_ild (.iload_n 2) 2, o_cv (.invokevirtual 235) 1 kX1_can 2 0, o_ifne 5 28, o_fall 26] else
  if p = 26 then [o_int (.iconst 0) 0, o_iret 1] else
  if p = 28 then [o_ald (.aload_n 3) 3, o_int (.iconst 1) 1, o_dup2, o_lda .iaload [0, 20], o_ald (.aload_n 0) 0, o_ild (.iload_n 2) 2, o_ald (.aload_n 3) 3, o_int (.iconst 0) 0, o_lda .iaload [0, 20], o_ald (.aload_n 3) 3, o_int (.iconst 1) 1, o_lda .iaload [0, 20], o_ald (.aload_n 3) 3, o_int (.iconst 2) 2, o_lda .iaload [0, 20], o_ald (.aload_n 0) 0, o_getf (.getfield 12) 1 0, o_getf (.getfield 102) 2 1, o_ald (.aload_n 0) 0, o_getf (.getfield 12) 1 0, o_getf (.getfield 112) 2 0, o_int (.iconst 1) 1, o_lda .iaload [0, 20], o_ald (.aload_n 0) 0, o_getf (.getfield 12) 1 0, o_getf (.getfield 112) 2 0, o_int (.iconst 0) 0, o_lda .iaload [0, 20], o_cv (.invokevirtual 232) 1 kX1_costOf 7 0, o_isub, o_sta .iastore [0], o_ild (.iload_n 2) 2, o_int (.iconst 4) 4, o_icmpge 43 118, o_ald (.aload_n 3) 3, o_int (.iconst 0) 0, o_ald (.aload_n 0) 0, o_ald (.aload_n 3) 3, o_int (.iconst 0) 0, o_lda .iaload [0, 20], o_ild (.iload_n 2) 2, o_cs (.invokestatic 169) kX1_dx 1 0, o_ild (.iload_n 2) 2, o_cs (.invokestatic 173) kX1_dy 1 0, o_cv (.invokevirtual 165) 1 kX1_beside 3 0, o_sta .iastore [0], o_ald (.aload_n 3) 3, o_int (.iconst 3) 3, o_ald (.aload_n 0) 0, o_getf (.getfield 12) 1 0, o_getf (.getfield 109) 2 6, o_ald (.aload_n 3) 3, o_int (.iconst 0) 0, o_lda .iaload [0, 20], o_lda .baload [1, 2, 22], o_ifeq 7 116, o_int (.iconst 1) 1, o_goto 4 117] else
  if p = 116 then [o_int (.iconst 0) 0, o_fall 117] else
  if p = 117 then [o_sta .iastore [0], o_fall 118] else
  if p = 118 then [o_ild (.iload_n 2) 2, o_int (.bipush 6) 6, o_icmplt 17 138, o_ald (.aload_n 3) 3, o_int (.iconst 2) 2, o_ild (.iload_n 2) 2, o_int (.bipush 6) 6, o_icmpne 7 136, o_int (.iconst 1) 1, o_goto 4 137] else
  if p = 136 then [o_int (.iconst 0) 0, o_fall 137] else
  if p = 137 then [o_sta .iastore [0], o_fall 138] else
  if p = 138 then [o_int (.iconst 1) 1, o_iret 1] else
  []
def mX1_goes : Nat → List tp_Op := fun p => 
  if p = 0 then [o_int (.iconst 0) 0, o_ist (.istore 5) 5, o_fall 3] else
  if p = 3 then [o_ild (.iload 5) 5, o_ald (.aload_n 0) 0, o_getf (.getfield 87) 1 4, o_icmpge 71 80, o_ald (.aload_n 0) 0, o_ild (.iload 5) 5, o_ald (.aload_n 0) 0, o_getf (.getfield 12) 1 0, o_getf (.getfield 118) 2 8, o_ild (.iload_n 3) 3, o_lda .aaload [4, 5, 6, 7, 28, 29], o_int (.iconst 0) 0, o_lda .iaload [0, 20], o_ineg, o_ald (.aload_n 0) 0, o_getf (.getfield 12) 1 0, o_getf (.getfield 118) 2 8, o_ild (.iload_n 3) 3, o_lda .aaload [4, 5, 6, 7, 28, 29], o_int (.iconst 1) 1, o_lda .iaload [0, 20], o_ineg, o_cv (.invokevirtual 165) 1 kX1_beside 3 0, o_ist (.istore 6) 6, o_ald (.aload_n 0) 0, o_getf (.getfield 34) 1 10, o_ild (.iload 5) 5, o_ild (.iload 6) 6, o_int (.iconst (-1)) (-1), o_icmpne 16 69, o_ald (.aload_n 0) 0, o_getf (.getfield 12) 1 0, o_getf (.getfield 112) 2 0, o_int (.bipush 8) 8, o_lda .iaload [0, 20], o_goto 7 73] else
  if p = 69 then [o_ald (.aload_n 1) 1, o_ild (.iload 6) 6, o_lda .iaload [0, 20], o_fall 73] else
  if p = 73 then [o_sta .iastore [0], o_inc 5 1, o_goto (-74) 3] else
  if p = 80 then [o_ald (.aload_n 0) 0, o_cv (.invokevirtual 176) 1 kX1_rules 0 0, o_ast (.astore 5) 5, o_int (.iconst 0) 0, o_ist (.istore 6) 6, o_fall 89] else
  if p = 89 then [o_ild (.iload 6) 6, o_ald (.aload_n 0) 0, o_getf (.getfield 87) 1 4, o_icmpge 78 173, o_ald (.aload_n 2) 2, o_ild (.iload 6) 6, o_ald (.aload_n 0) 0, o_getf (.getfield 34) 1 10, o_ild (.iload 6) 6, o_lda .iaload [0, 20], o_sta .iastore [0], o_ald (.aload 5) 5, o_ifnull 56 167, o_ald (.aload 5) 5, o_getf (.getfield 220) 5 5, o_ifnon 6 125, o_goto 45 167] else
  if p = 125 then [o_ald (.aload_n 0) 0, o_ald (.aload_n 0) 0, o_getf (.getfield 34) 1 10, o_ild (.iload 6) 6, o_ild (.iload_n 3) 3, o_ild (.iload 4) 4, o_cv (.invokevirtual 191) 1 kX1_names 4 0, o_ald (.aload_n 2) 2, o_ild (.iload 6) 6, o_lng (.lconst 0) 0, o_lng (.ldc2_w 201) 99, o_ald (.aload 5) 5, o_getf (.getfield 220) 5 5, o_ald (.aload_n 0) 0, o_getf (.getfield 30) 1 9, o_ci (.invokeinterface 203 2) [(8, kX8_of), (9, kX9_of), (10, kX10_of), (11, kX11_of)] 1 0, o_lmin (.invokestatic 209), o_lmax (.invokestatic 212), o_l2i, o_sta .iastore [0], o_fall 167] else
  if p = 167 then [o_inc 6 1, o_goto (-81) 89] else
  if p = 173 then [o_vret] else
  []
def mX1_drifts : Nat → List tp_Op := fun p => 
  if p = 0 then [o_ald (.aload_n 0) 0, o_ild (.iload_n 1) 1, o_ald (.aload_n 0) 0, o_getf (.getfield 12) 1 0, o_getf (.getfield 118) 2 8, o_ild (.iload_n 2) 2, o_lda .aaload [4, 5, 6, 7, 28, 29], o_int (.iconst 0) 0, o_lda .iaload [0, 20], o_ald (.aload_n 0) 0, o_getf (.getfield 12) 1 0, o_getf (.getfield 118) 2 8, o_ild (.iload_n 2) 2, o_lda .aaload [4, 5, 6, 7, 28, 29], o_int (.iconst 1) 1, o_lda .iaload [0, 20], o_cv (.invokevirtual 165) 1 kX1_beside 3 0, o_ist (.istore_n 3) 3, o_ild (.iload_n 3) 3, o_int (.iconst (-1)) (-1), o_icmpne 7 37, o_ild (.iload_n 1) 1, o_goto 4 38] else
  if p = 37 then [o_ild (.iload_n 3) 3, o_fall 38] else
  if p = 38 then [o_iret 0] else
  []
def mX1_nips : Nat → List tp_Op := fun p => 
  if p = 0 then [o_ald (.aload_n 0) 0, o_cv (.invokevirtual 176) 1 kX1_rules 0 0, o_ast (.astore 5) 5, o_ald (.aload 5) 5, o_ifnon 5 13, o_int (.iconst 0) 0, o_iret 1] else
  if p = 13 then [o_ald (.aload_n 0) 0, o_ald (.aload_n 1) 1, o_ild (.iload_n 2) 2, o_ild (.iload_n 3) 3, o_ild (.iload 4) 4, o_cv (.invokevirtual 191) 1 kX1_names 4 0, o_ald (.aload 5) 5, o_getf (.getfield 214) 5 1, o_ald (.aload_n 0) 0, o_getf (.getfield 30) 1 9, o_cs (.invokestatic 194) kX5_some 2 0, o_iret 1] else
  []
def mX1_of : Nat → List tp_Op := fun p => 
  if p = 0 then [o_ild (.iload_n 1) 1, o_int (.iconst 0) 0, o_int (.iconst 1) 1, o_cs (.invokestatic 94) kX1_in 3 0, o_ifeq 41 47, o_ild (.iload_n 2) 2, o_int (.iconst 0) 0, o_int (.iconst 3) 3, o_cs (.invokestatic 94) kX1_in 3 0, o_ifeq 32 47, o_ald (.aload_n 0) 0, o_getf (.getfield 12) 1 0, o_getf (.getfield 130) 2 10, o_ild (.iload_n 1) 1, o_lda .aaload [4, 5, 6, 7, 28, 29], o_int (.iconst 0) 0, o_lda .iaload [0, 20], o_int (.iconst (-1)) (-1), o_icmpeq 17 47, o_ald (.aload_n 0) 0, o_getf (.getfield 12) 1 0, o_getf (.getfield 130) 2 10, o_ild (.iload_n 1) 1, o_lda .aaload [4, 5, 6, 7, 28, 29], o_ild (.iload_n 2) 2, o_lda .iaload [0, 20], o_goto 4 48] else
  if p = 47 then [o_int (.iconst (-1)) (-1), o_fall 48] else
  if p = 48 then [o_iret 0] else
  []
def mX1_soonest : Nat → List tp_Op := fun p => 
  if p = 0 then [o_ild (.iload_n 1) 1, o_int (.iconst 0) 0, o_int (.iconst 1) 1, o_cs (.invokestatic 94) kX1_in 3 0, o_ifne 14 20, o_ild (.iload_n 1) 1, o_int (.bipush 10) 10, o_int (.bipush 21) 21, o_cs (.invokestatic 94) kX1_in 3 0, o_ifeq 12 29, o_fall 20] else
  if p = 20 then [o_ald (.aload_n 0) 0, o_cv (.invokevirtual 287) 1 kX1_ship_2 0 0, o_int (.iconst 3) 3, o_lda .iaload [0, 20], o_ifeq 5 31, o_fall 29] else
  if p = 29 then [o_int (.iconst (-1)) (-1), o_iret 0] else
  if p = 31 then [o_ald (.aload_n 0) 0, o_cv (.invokevirtual 290) 1 kX1_laysAhead 0 0, o_ald (.aload_n 0) 0, o_getf (.getfield 46) 1 14, o_int (.iconst (-1)) (-1), o_cs (.invokestatic 293) kJ0_fill 2 0, o_ald (.aload_n 0) 0, o_cv (.invokevirtual 287) 1 kX1_ship_2 0 0, o_int (.iconst 0) 0, o_lda .iaload [0, 20], o_ist (.istore_n 2) 2, o_ald (.aload_n 0) 0, o_cv (.invokevirtual 287) 1 kX1_ship_2 0 0, o_int (.iconst 1) 1, o_lda .iaload [0, 20], o_ist (.istore_n 3) 3, o_ald (.aload_n 0) 0, o_cv (.invokevirtual 287) 1 kX1_ship_2 0 0, o_int (.iconst 2) 2, o_lda .iaload [0, 20], o_ist (.istore 4) 4, o_ald (.aload_n 0) 0, o_int (.iconst 0) 0, o_ild (.iload_n 2) 2, o_ild (.iload_n 3) 3, o_ild (.iload 4) 4, o_cv (.invokevirtual 283) 1 kX1_soonest_2 4 0, o_ist (.istore 5) 5, o_ild (.iload 5) 5, o_int (.ldc_w 266) 1000000, o_icmpne 5 86, o_int (.iconst (-1)) (-1), o_iret 0] else
  if p = 86 then [o_ild (.iload_n 1) 1, o_int (.iconst 2) 2, o_icmpge 24 112, o_ild (.iload_n 1) 1, o_ifne 11 103, o_ild (.iload 5) 5, o_int (.bipush 100) 100, o_idiv, o_goto 11 111] else
  if p = 103 then [o_int (.bipush 99) 99, o_ild (.iload 5) 5, o_int (.bipush 100) 100, o_irem, o_isub, o_fall 111] else
  if p = 111 then [o_iret 0] else
  if p = 112 then [o_int (.iconst 0) 0, o_ist (.istore 6) 6, o_fall 115] else
  if p = 115 then [o_ild (.iload 6) 6, o_ild (.iload 5) 5, o_int (.bipush 100) 100, o_idiv, o_icmpge 81 203, o_int (.iconst 0) 0, o_ist (.istore 7) 7, o_fall 128] else
  if p = 128 then [o_ald (.aload_n 0) 0, o_ild (.iload 6) 6, o_ild (.iload_n 2) 2, o_ild (.iload_n 3) 3, o_ild (.iload 4) 4, o_ild (.iload 7) 7, o_cv (.invokevirtual 267) 1 kX1_soonestBy 5 0, o_ild (.iload 5) 5, o_icmpeq 9 151, o_inc 7 1, o_goto (-20) 128] else
  if p = 151 then [o_ild (.iload 6) 6, o_ild (.iload_n 1) 1, o_int (.bipush 10) 10, o_isub, o_icmpne 6 163, o_ild (.iload 7) 7, o_iret 0] else
  if p = 163 then [o_ild (.iload_n 3) 3, o_ald (.aload_n 0) 0, o_ild (.iload 6) 6, o_ild (.iload 7) 7, o_ild (.iload_n 2) 2, o_ild (.iload_n 3) 3, o_ild (.iload 4) 4, o_cv (.invokevirtual 271) 1 kX1_costAt 5 0, o_isub, o_ist (.istore_n 3) 3, o_ald (.aload_n 0) 0, o_ild (.iload 6) 6, o_ild (.iload 7) 7, o_ild (.iload_n 2) 2, o_cv (.invokevirtual 274) 1 kX1_cellBehind 3 0, o_ist (.istore_n 2) 2, o_ild (.iload 7) 7, o_ild (.iload 4) 4, o_cs (.invokestatic 280) kX1_fires 2 0, o_ist (.istore 4) 4, o_inc 6 1, o_goto (-85) 115] else
  if p = 203 then [o_int (.iconst (-1)) (-1), o_iret 0] else
  []
def mX1_ship_2 : Nat → List tp_Op := fun p => 
  if p = 0 then [o_ald (.aload_n 0) 0, o_getf (.getfield 12) 1 0, o_getf (.getfield 130) 2 10, o_int (.iconst 0) 0, o_lda .aaload [4, 5, 6, 7, 28, 29], o_aret] else
  []
def mX1_laysAhead : Nat → List tp_Op := fun p => 
  if p = 0 then [o_ald (.aload_n 0) 0, o_ald (.aload_n 0) 0, o_getf (.getfield 12) 1 0, o_getf (.getfield 112) 2 0, o_int (.iconst 4) 4, o_lda .iaload [0, 20], o_putf (.putfield 254) 1 11 0, o_ald (.aload_n 0) 0, o_getf (.getfield 12) 1 0, o_getf (.getfield 257) 2 3, o_int (.iconst 0) 0, o_ald (.aload_n 0) 0, o_getf (.getfield 37) 1 12, o_int (.iconst 0) 0, o_int (.bipush 12) 12, o_acopy (.invokestatic 124), o_ald (.aload_n 0) 0, o_cv (.invokevirtual 260) 1 kX1_laysSea 0 0, o_vret] else
  []
def mX1_laysSea : Nat → List tp_Op := fun p => 
  if p = 0 then [o_ald (.aload_n 0) 0, o_getf (.getfield 12) 1 0, o_getf (.getfield 102) 2 1, o_int (.iconst 0) 0, o_ald (.aload_n 0) 0, o_getf (.getfield 42) 1 13, o_int (.iconst 0) 0, o_lda .aaload [4, 5, 6, 7, 28, 29], o_int (.iconst 0) 0, o_int (.bipush 36) 36, o_acopy (.invokestatic 124), o_int (.iconst 0) 0, o_ist (.istore_n 1) 1, o_fall 22] else
  if p = 22 then [o_ild (.iload_n 1) 1, o_ald (.aload_n 0) 0, o_getf (.getfield 254) 1 11, o_icmpge 44 71, o_ald (.aload_n 0) 0, o_ald (.aload_n 0) 0, o_getf (.getfield 42) 1 13, o_ild (.iload_n 1) 1, o_lda .aaload [4, 5, 6, 7, 28, 29], o_ald (.aload_n 0) 0, o_getf (.getfield 42) 1 13, o_ild (.iload_n 1) 1, o_int (.iconst 1) 1, o_iadd, o_lda .aaload [4, 5, 6, 7, 28, 29], o_ald (.aload_n 0) 0, o_getf (.getfield 37) 1 12, o_ild (.iload_n 1) 1, o_lda .iaload [0, 20], o_ald (.aload_n 0) 0, o_getf (.getfield 12) 1 0, o_getf (.getfield 112) 2 0, o_int (.iconst 0) 0, o_lda .iaload [0, 20], o_ild (.iload_n 1) 1, o_iadd, o_cv (.invokevirtual 242) 1 kX1_goes 4 0, o_inc 1 1, o_goto (-46) 22] else
  if p = 71 then [o_vret] else
  []
def mX1_soonest_2 : Nat → List tp_Op := fun p => 
  if p = 0 then [o_ild (.iload_n 1) 1, o_ald (.aload_n 0) 0, o_getf (.getfield 254) 1 11, o_icmpne 7 12, o_int (.ldc_w 266) 1000000, o_iret 0] else
  if p = 12 then [o_int (.sipush 200) 200, o_int (.bipush 36) 36, o_ild (.iload_n 1) 1, o_imul, o_ild (.iload_n 2) 2, o_iadd, o_imul, o_int (.iconst 2) 2, o_ild (.iload_n 3) 3, o_imul, o_iadd, o_ild (.iload 4) 4, o_iadd, o_ist (.istore 5) 5, o_ald (.aload_n 0) 0, o_getf (.getfield 46) 1 14, o_ild (.iload 5) 5, o_lda .iaload [0, 20], o_int (.iconst (-1)) (-1), o_icmpeq 11 50, o_ald (.aload_n 0) 0, o_getf (.getfield 46) 1 14, o_ild (.iload 5) 5, o_lda .iaload [0, 20], o_iret 0] else
  if p = 50 then [o_int (.ldc_w 266) 1000000, o_ist (.istore 6) 6, o_int (.iconst 0) 0, o_ist (.istore 7) 7, o_fall 58] else
  if p = 58 then [o_ild (.iload 7) 7, o_int (.bipush 7) 7, o_icmpgt 27 89, o_ild (.iload 6) 6, o_ald (.aload_n 0) 0, o_ild (.iload_n 1) 1, o_ild (.iload_n 2) 2, o_ild (.iload_n 3) 3, o_ild (.iload 4) 4, o_ild (.iload 7) 7, o_cv (.invokevirtual 267) 1 kX1_soonestBy 5 0, o_mmin (.invokestatic 72), o_ist (.istore 6) 6, o_inc 7 1, o_goto (-28) 58] else
  if p = 89 then [o_ald (.aload_n 0) 0, o_getf (.getfield 46) 1 14, o_ild (.iload 5) 5, o_ild (.iload 6) 6, o_sta .iastore [0], o_ild (.iload 6) 6, o_iret 0] else
  []
def mX1_soonestBy : Nat → List tp_Op := fun p => 
  if p = 0 then [o_ald (.aload_n 0) 0, o_ild (.iload_n 1) 1, o_ild (.iload 5) 5, o_ild (.iload_n 2) 2, o_ild (.iload_n 3) 3, o_ild (.iload 4) 4, o_cv (.invokevirtual 271) 1 kX1_costAt 5 0, o_ist (.istore 6) 6, o_ild (.iload 6) 6, o_int (.iconst (-1)) (-1), o_icmpne 7 23, o_int (.ldc_w 266) 1000000, o_iret 0] else
  if p = 23 then [o_ald (.aload_n 0) 0, o_ild (.iload_n 1) 1, o_ild (.iload 5) 5, o_ild (.iload_n 2) 2, o_cv (.invokevirtual 274) 1 kX1_cellBehind 3 0, o_ist (.istore 7) 7, o_ild (.iload 5) 5, o_int (.iconst 4) 4, o_icmpge 31 67, o_ald (.aload_n 0) 0, o_getf (.getfield 12) 1 0, o_getf (.getfield 109) 2 6, o_ild (.iload 7) 7, o_lda .baload [1, 2, 22], o_ifeq 18 67, o_int (.bipush 100) 100, o_ild (.iload_n 1) 1, o_int (.iconst 1) 1, o_iadd, o_imul, o_int (.bipush 99) 99, o_iadd, o_ild (.iload_n 3) 3, o_ild (.iload 6) 6, o_isub, o_isub, o_iret 0] else
  if p = 67 then [o_ald (.aload_n 0) 0, o_ild (.iload_n 1) 1, o_ild (.iload 7) 7, o_cv (.invokevirtual 277) 1 kX1_nippedAt 2 0, o_ifeq 9 83, o_int (.ldc_w 266) 1000000, o_goto 23 103] else
  if p = 83 then [o_ald (.aload_n 0) 0, o_ild (.iload_n 1) 1, o_int (.iconst 1) 1, o_iadd, o_ild (.iload 7) 7, o_ild (.iload_n 3) 3, o_ild (.iload 6) 6, o_isub, o_ild (.iload 5) 5, o_ild (.iload 4) 4, o_cs (.invokestatic 280) kX1_fires 2 0, o_cv (.invokevirtual 283) 1 kX1_soonest_2 4 0, o_fall 103] else
  if p = 103 then [o_iret 0] else
  []
def mX1_costAt : Nat → List tp_Op := fun p => 
  if p = 0 then [o_ald (.aload_n 0) 0, o_ild (.iload_n 2) 2, o_ild (.iload_n 3) 3, o_ild (.iload 4) 4, o_ild (.iload 5) 5, o_ald (.aload_n 0) 0, o_getf (.getfield 42) 1 13, o_ild (.iload_n 1) 1, o_lda .aaload [4, 5, 6, 7, 28, 29], o_ald (.aload_n 0) 0, o_ild (.iload_n 1) 1, o_cv (.invokevirtual 263) 1 kX1_windAt 1 0, o_ald (.aload_n 0) 0, o_getf (.getfield 12) 1 0, o_getf (.getfield 112) 2 0, o_int (.iconst 0) 0, o_lda .iaload [0, 20], o_ild (.iload_n 1) 1, o_iadd, o_cv (.invokevirtual 232) 1 kX1_costOf 7 0, o_iret 0] else
  []
def mX1_windAt : Nat → List tp_Op := fun p => 
  if p = 0 then [o_ild (.iload_n 1) 1, o_ifne 15 16, o_ald (.aload_n 0) 0, o_getf (.getfield 12) 1 0, o_getf (.getfield 112) 2 0, o_int (.iconst 1) 1, o_lda .iaload [0, 20], o_goto 11 24] else
  if p = 16 then [o_ald (.aload_n 0) 0, o_getf (.getfield 37) 1 12, o_ild (.iload_n 1) 1, o_int (.iconst 1) 1, o_isub, o_lda .iaload [0, 20], o_fall 24] else
  if p = 24 then [o_iret 0] else
  []
def mX1_cellBehind : Nat → List tp_Op := fun p => 
  if p = 0 then [o_ild (.iload_n 2) 2, o_int (.iconst 4) 4, o_icmpge 19 21, o_ald (.aload_n 0) 0, o_ild (.iload_n 3) 3, o_ild (.iload_n 2) 2, o_cs (.invokestatic 169) kX1_dx 1 0, o_ild (.iload_n 2) 2, o_cs (.invokestatic 173) kX1_dy 1 0, o_cv (.invokevirtual 165) 1 kX1_beside 3 0, o_goto 23 41] else
  if p = 21 then [o_ild (.iload_n 2) 2, o_int (.iconst 5) 5, o_icmpne 7 30, o_ild (.iload_n 3) 3, o_goto 14 41] else
  if p = 30 then [o_ald (.aload_n 0) 0, o_ild (.iload_n 3) 3, o_ald (.aload_n 0) 0, o_getf (.getfield 37) 1 12, o_ild (.iload_n 1) 1, o_lda .iaload [0, 20], o_cv (.invokevirtual 246) 1 kX1_drifts 2 0, o_fall 41] else
  if p = 41 then [o_iret 0] else
  []
def mX1_nippedAt : Nat → List tp_Op := fun p => 
  if p = 0 then [o_ald (.aload_n 0) 0, o_ald (.aload_n 0) 0, o_getf (.getfield 42) 1 13, o_ild (.iload_n 1) 1, o_int (.iconst 1) 1, o_iadd, o_lda .aaload [4, 5, 6, 7, 28, 29], o_ild (.iload_n 2) 2, o_ald (.aload_n 0) 0, o_getf (.getfield 37) 1 12, o_ild (.iload_n 1) 1, o_lda .iaload [0, 20], o_ald (.aload_n 0) 0, o_getf (.getfield 12) 1 0, o_getf (.getfield 112) 2 0, o_int (.iconst 0) 0, o_lda .iaload [0, 20], o_ild (.iload_n 1) 1, o_iadd, o_cv (.invokevirtual 249) 1 kX1_nips 4 0, o_iret 1] else
  []
def mX1_fires : Nat → List tp_Op := fun p => 
  if p = 0 then [o_ild (.iload_n 0) 0, o_int (.bipush 6) 6, o_icmpne 7 10, o_int (.iconst 1) 1, o_goto 14 21] else
  if p = 10 then [o_ild (.iload_n 0) 0, o_int (.bipush 7) 7, o_icmpne 7 20, o_int (.iconst 0) 0, o_goto 4 21] else
  if p = 20 then [o_ild (.iload_n 1) 1, o_fall 21] else
  if p = 21 then [o_iret 0] else
  []
def mX1_least : Nat → List tp_Op := fun p => 
  if p = 0 then [o_ald (.aload_n 0) 0, o_cv (.invokevirtual 287) 1 kX1_ship_2 0 0, o_int (.iconst 3) 3, o_lda .iaload [0, 20], o_ifeq 5 11, o_int (.iconst (-1)) (-1), o_iret 0] else
  if p = 11 then [o_ald (.aload_n 0) 0, o_cv (.invokevirtual 290) 1 kX1_laysAhead 0 0, o_ald (.aload_n 0) 0, o_getf (.getfield 46) 1 14, o_int (.iconst (-1)) (-1), o_cs (.invokestatic 293) kJ0_fill 2 0, o_int (.iconst 0) 0, o_ist (.istore_n 1) 1, o_fall 25] else
  if p = 25 then [o_ild (.iload_n 1) 1, o_int (.bipush 99) 99, o_icmpgt 35 63, o_ald (.aload_n 0) 0, o_int (.iconst 0) 0, o_ald (.aload_n 0) 0, o_cv (.invokevirtual 287) 1 kX1_ship_2 0 0, o_int (.iconst 0) 0, o_lda .iaload [0, 20], o_ild (.iload_n 1) 1, o_ald (.aload_n 0) 0, o_cv (.invokevirtual 287) 1 kX1_ship_2 0 0, o_int (.iconst 2) 2, o_lda .iaload [0, 20], o_cv (.invokevirtual 283) 1 kX1_soonest_2 4 0, o_int (.ldc_w 266) 1000000, o_icmpeq 5 57, o_ild (.iload_n 1) 1, o_iret 0] else
  if p = 57 then [o_inc 1 1, o_goto (-35) 25] else
  if p = 63 then [o_int (.iconst (-1)) (-1), o_iret 0] else
  []
def mX1_ahead : Nat → List tp_Op := fun p => 
  if p = 0 then [o_ild (.iload_n 1) 1, o_int (.iconst 0) 0, o_int (.bipush 11) 11, o_cs (.invokestatic 94) kX1_in 3 0, o_ifeq 10 17, o_ild (.iload_n 2) 2, o_cs (.invokestatic 115) kX1_isWind 1 0, o_ifne 5 19, o_fall 17] else
  if p = 17 then [o_int (.iconst (-1)) (-1), o_iret 0] else
  if p = 19 then [o_ald (.aload_n 0) 0, o_getf (.getfield 12) 1 0, o_getf (.getfield 257) 2 3, o_ild (.iload_n 1) 1, o_ild (.iload_n 2) 2, o_sta .iastore [0], o_ald (.aload_n 0) 0, o_getf (.getfield 12) 1 0, o_getf (.getfield 112) 2 0, o_int (.iconst 4) 4, o_ald (.aload_n 0) 0, o_getf (.getfield 12) 1 0, o_getf (.getfield 112) 2 0, o_int (.iconst 4) 4, o_lda .iaload [0, 20], o_ild (.iload_n 1) 1, o_int (.iconst 1) 1, o_iadd, o_mmax (.invokestatic 78), o_sta .iastore [0], o_ald (.aload_n 0) 0, o_getf (.getfield 12) 1 0, o_getf (.getfield 112) 2 0, o_int (.iconst 4) 4, o_lda .iaload [0, 20], o_iret 0] else
  []
def mX1_many : Nat → List tp_Op := fun p => 
  if p = 0 then [o_ild (.iload_n 1) 1, o_int (.iconst 0) 0, o_int (.bipush 12) 12, o_cs (.invokestatic 94) kX1_in 3 0, o_ifeq 12 19, o_ild (.iload_n 2) 2, o_int (.iconst 0) 0, o_ild (.iload_n 1) 1, o_cs (.invokestatic 94) kX1_in 3 0, o_ifne 5 21, o_fall 19] else
  if p = 19 then [o_int (.iconst 0) 0, o_iret 1] else
  if p = 21 then [o_ald (.aload_n 0) 0, o_getf (.getfield 12) 1 0, o_getf (.getfield 112) 2 0, o_int (.iconst 4) 4, o_ild (.iload_n 1) 1, o_sta .iastore [0], o_ald (.aload_n 0) 0, o_getf (.getfield 12) 1 0, o_getf (.getfield 112) 2 0, o_int (.iconst 5) 5, o_ild (.iload_n 2) 2, o_sta .iastore [0], o_int (.iconst 1) 1, o_iret 1] else
  []
def mX1_order : Nat → List tp_Op := fun p => 
  if p = 0 then [o_ild (.iload_n 1) 1, o_int (.iconst 0) 0, o_ald (.aload_n 0) 0, o_getf (.getfield 12) 1 0, o_getf (.getfield 112) 2 0, o_int (.iconst 4) 4, o_lda .iaload [0, 20], o_int (.iconst 1) 1, o_isub, o_cs (.invokestatic 94) kX1_in 3 0, o_ifeq 10 26, o_ild (.iload_n 2) 2, o_cs (.invokestatic 229) kX1_isOrder 1 0, o_ifne 5 28, o_fall 26] else
  if p = 26 then [o_int (.iconst (-1)) (-1), o_iret 0] else
  if p = 28 then [o_ald (.aload_n 0) 0, o_getf (.getfield 12) 1 0, o_getf (.getfield 299) 2 4, o_ild (.iload_n 1) 1, o_ild (.iload_n 2) 2, o_sta .iastore [0], o_ald (.aload_n 0) 0, o_getf (.getfield 12) 1 0, o_getf (.getfield 112) 2 0, o_int (.iconst 5) 5, o_ald (.aload_n 0) 0, o_getf (.getfield 12) 1 0, o_getf (.getfield 112) 2 0, o_int (.iconst 5) 5, o_lda .iaload [0, 20], o_ild (.iload_n 1) 1, o_int (.iconst 1) 1, o_iadd, o_mmax (.invokestatic 78), o_sta .iastore [0], o_ald (.aload_n 0) 0, o_getf (.getfield 12) 1 0, o_getf (.getfield 112) 2 0, o_int (.iconst 5) 5, o_lda .iaload [0, 20], o_iret 0] else
  []
def mX1_told : Nat → List tp_Op := fun p => 
  if p = 0 then [o_ald (.aload_n 0) 0, o_cv (.invokevirtual 305) 1 kX1_laysPath 0 0, o_ild (.iload_n 1) 1, o_int (.iconst (-1)) (-1), o_icmpne 10 16, o_ald (.aload_n 0) 0, o_getf (.getfield 302) 1 16, o_goto 31 44] else
  if p = 16 then [o_ild (.iload_n 1) 1, o_int (.iconst 0) 0, o_ald (.aload_n 0) 0, o_getf (.getfield 302) 1 16, o_int (.iconst 1) 1, o_isub, o_cs (.invokestatic 94) kX1_in 3 0, o_ifeq 16 43, o_ald (.aload_n 0) 0, o_getf (.getfield 49) 1 15, o_ild (.iload_n 1) 1, o_int (.iconst 1) 1, o_iadd, o_lda .aaload [4, 5, 6, 7, 28, 29], o_int (.iconst 0) 0, o_lda .iaload [0, 20], o_goto 4 44] else
  if p = 43 then [o_int (.iconst (-1)) (-1), o_fall 44] else
  if p = 44 then [o_iret 0] else
  []
def mX1_laysPath : Nat → List tp_Op := fun p => 
  if p = 0 then [o_ald (.aload_n 0) 0, o_cv (.invokevirtual 290) 1 kX1_laysAhead 0 0, o_ald (.aload_n 0) 0, o_cv (.invokevirtual 287) 1 kX1_ship_2 0 0, o_int (.iconst 0) 0, o_ald (.aload_n 0) 0, o_getf (.getfield 49) 1 15, o_int (.iconst 0) 0, o_lda .aaload [4, 5, 6, 7, 28, 29], o_int (.iconst 0) 0, o_int (.iconst 3) 3, o_acopy (.invokestatic 124), o_ald (.aload_n 0) 0, o_int (.iconst 0) 0, o_putf (.putfield 302) 1 16 0, o_int (.iconst 0) 0, o_ist (.istore_n 1) 1, o_fall 27] else
  if p = 27 then [o_ild (.iload_n 1) 1, o_ald (.aload_n 0) 0, o_getf (.getfield 12) 1 0, o_getf (.getfield 112) 2 0, o_int (.iconst 5) 5, o_lda .iaload [0, 20], o_icmpge 154 191, o_ald (.aload_n 0) 0, o_cv (.invokevirtual 287) 1 kX1_ship_2 0 0, o_int (.iconst 3) 3, o_lda .iaload [0, 20], o_ifne 145 191, o_ald (.aload_n 0) 0, o_getf (.getfield 49) 1 15, o_ild (.iload_n 1) 1, o_lda .aaload [4, 5, 6, 7, 28, 29], o_ast (.astore_n 2) 2, o_ald (.aload_n 0) 0, o_getf (.getfield 12) 1 0, o_getf (.getfield 299) 2 4, o_ild (.iload_n 1) 1, o_lda .iaload [0, 20], o_ist (.istore_n 3) 3, o_ald (.aload_n 0) 0, o_ild (.iload_n 1) 1, o_ild (.iload_n 3) 3, o_ald (.aload_n 2) 2, o_int (.iconst 0) 0, o_lda .iaload [0, 20], o_ald (.aload_n 2) 2, o_int (.iconst 1) 1, o_lda .iaload [0, 20], o_ald (.aload_n 2) 2, o_int (.iconst 2) 2, o_lda .iaload [0, 20], o_cv (.invokevirtual 271) 1 kX1_costAt 5 0, o_ist (.istore 4) 4, o_ild (.iload 4) 4, o_int (.iconst (-1)) (-1), o_icmpne 4 90, o_vret] else
  if p = 90 then [o_ald (.aload_n 0) 0, o_ild (.iload_n 1) 1, o_ild (.iload_n 3) 3, o_ald (.aload_n 2) 2, o_int (.iconst 0) 0, o_lda .iaload [0, 20], o_cv (.invokevirtual 274) 1 kX1_cellBehind 3 0, o_ist (.istore 5) 5, o_ild (.iload_n 3) 3, o_int (.iconst 4) 4, o_icmpge 16 119, o_ald (.aload_n 0) 0, o_getf (.getfield 12) 1 0, o_getf (.getfield 109) 2 6, o_ild (.iload 5) 5, o_lda .baload [1, 2, 22], o_ifne 13 129, o_fall 119] else
  if p = 119 then [o_ald (.aload_n 0) 0, o_ild (.iload_n 1) 1, o_ild (.iload 5) 5, o_cv (.invokevirtual 277) 1 kX1_nippedAt 2 0, o_ifeq 4 130, o_fall 129] else
  if p = 129 then [o_vret] else
  if p = 130 then [o_int (.iconst 3) 3, o_newa (.newarray .int) 0, o_dup, o_int (.iconst 0) 0, o_ild (.iload 5) 5, o_sta .iastore [0], o_dup, o_int (.iconst 1) 1, o_ald (.aload_n 2) 2, o_int (.iconst 1) 1, o_lda .iaload [0, 20], o_ild (.iload 4) 4, o_isub, o_sta .iastore [0], o_dup, o_int (.iconst 2) 2, o_ild (.iload_n 3) 3, o_ald (.aload_n 2) 2, o_int (.iconst 2) 2, o_lda .iaload [0, 20], o_cs (.invokestatic 280) kX1_fires 2 0, o_sta .iastore [0], o_ast (.astore 6) 6, o_ald (.aload 6) 6, o_int (.iconst 0) 0, o_ald (.aload_n 0) 0, o_getf (.getfield 49) 1 15, o_ild (.iload_n 1) 1, o_int (.iconst 1) 1, o_iadd, o_lda .aaload [4, 5, 6, 7, 28, 29], o_int (.iconst 0) 0, o_int (.iconst 3) 3, o_acopy (.invokestatic 124), o_ald (.aload_n 0) 0, o_dup, o_getf (.getfield 302) 1 16, o_int (.iconst 1) 1, o_iadd, o_putf (.putfield 302) 1 16 0, o_inc 1 1, o_goto (-161) 27] else
  if p = 191 then [o_vret] else
  []
def mX1_home : Nat → List tp_Op := fun p => 
  if p = 0 then [o_ald (.aload_n 0) 0, o_ild (.iload_n 1) 1, o_cv (.invokevirtual 98) 1 kX1_isCell 1 0, o_ifne 5 10, o_int (.iconst 0) 0, o_iret 1] else
  if p = 10 then [o_ald (.aload_n 0) 0, o_getf (.getfield 12) 1 0, o_getf (.getfield 112) 2 0, o_int (.bipush 6) 6, o_ild (.iload_n 1) 1, o_sta .iastore [0], o_int (.iconst 1) 1, o_iret 1] else
  []
def mX1_last : Nat → List tp_Op := fun p => 
  if p = 0 then [o_ald (.aload_n 0) 0, o_cv (.invokevirtual 287) 1 kX1_ship_2 0 0, o_int (.iconst 3) 3, o_lda .iaload [0, 20], o_ifeq 5 11, o_int (.iconst (-1)) (-1), o_iret 0] else
  if p = 11 then [o_ald (.aload_n 0) 0, o_cv (.invokevirtual 305) 1 kX1_laysPath 0 0, o_ald (.aload_n 0) 0, o_getf (.getfield 46) 1 14, o_int (.iconst (-1)) (-1), o_cs (.invokestatic 293) kJ0_fill 2 0, o_ald (.aload_n 0) 0, o_getf (.getfield 302) 1 16, o_ist (.istore_n 1) 1, o_fall 28] else
  if p = 28 then [o_ild (.iload_n 1) 1, o_iflt 43 72, o_ald (.aload_n 0) 0, o_ild (.iload_n 1) 1, o_ald (.aload_n 0) 0, o_getf (.getfield 49) 1 15, o_ild (.iload_n 1) 1, o_lda .aaload [4, 5, 6, 7, 28, 29], o_int (.iconst 0) 0, o_lda .iaload [0, 20], o_ald (.aload_n 0) 0, o_getf (.getfield 49) 1 15, o_ild (.iload_n 1) 1, o_lda .aaload [4, 5, 6, 7, 28, 29], o_int (.iconst 1) 1, o_lda .iaload [0, 20], o_ald (.aload_n 0) 0, o_getf (.getfield 49) 1 15, o_ild (.iload_n 1) 1, o_lda .aaload [4, 5, 6, 7, 28, 29], o_int (.iconst 2) 2, o_lda .iaload [0, 20], o_cv (.invokevirtual 308) 1 kX1_comesHome 4 0, o_ifeq 5 66, o_ild (.iload_n 1) 1, o_iret 0] else
  if p = 66 then [o_inc 1 (-1), o_goto (-41) 28] else
  if p = 72 then [o_int (.iconst (-1)) (-1), o_iret 0] else
  []
def mX1_comesHome : Nat → List tp_Op := fun p => 
  if p = 0 then [o_ild (.iload_n 2) 2, o_ald (.aload_n 0) 0, o_getf (.getfield 12) 1 0, o_getf (.getfield 112) 2 0, o_int (.bipush 6) 6, o_lda .iaload [0, 20], o_icmpne 5 16, o_int (.iconst 1) 1, o_iret 1] else
  if p = 16 then [o_ild (.iload_n 1) 1, o_ald (.aload_n 0) 0, o_getf (.getfield 254) 1 11, o_icmpne 5 26, o_int (.iconst 0) 0, o_iret 1] else
  if p = 26 then [o_int (.sipush 200) 200, o_int (.bipush 36) 36, o_ild (.iload_n 1) 1, o_imul, o_ild (.iload_n 2) 2, o_iadd, o_imul, o_int (.iconst 2) 2, o_ild (.iload_n 3) 3, o_imul, o_iadd, o_ild (.iload 4) 4, o_iadd, o_ist (.istore 5) 5, o_ald (.aload_n 0) 0, o_getf (.getfield 46) 1 14, o_ild (.iload 5) 5, o_lda .iaload [0, 20], o_int (.iconst (-1)) (-1), o_icmpeq 20 73, o_ald (.aload_n 0) 0, o_getf (.getfield 46) 1 14, o_ild (.iload 5) 5, o_lda .iaload [0, 20], o_int (.iconst 1) 1, o_icmpne 7 71, o_int (.iconst 1) 1, o_goto 4 72] else
  if p = 71 then [o_int (.iconst 0) 0, o_fall 72] else
  if p = 72 then [o_iret 1] else
  if p = 73 then [o_int (.iconst 0) 0, o_ist (.istore 6) 6, o_int (.iconst 0) 0, o_ist (.istore 7) 7, o_fall 79] else
  if p = 79 then [o_ild (.iload 7) 7, o_int (.bipush 7) 7, o_icmpgt 100 183, o_ild (.iload 6) 6, o_ifne 95 183, o_ald (.aload_n 0) 0, o_ild (.iload_n 1) 1, o_ild (.iload 7) 7, o_ild (.iload_n 2) 2, o_ild (.iload_n 3) 3, o_ild (.iload 4) 4, o_cv (.invokevirtual 271) 1 kX1_costAt 5 0, o_ist (.istore 8) 8, o_ild (.iload 8) 8, o_int (.iconst (-1)) (-1), o_icmpne 6 113, o_goto 67 177] else
  if p = 113 then [o_ald (.aload_n 0) 0, o_ild (.iload_n 1) 1, o_ild (.iload 7) 7, o_ild (.iload_n 2) 2, o_cv (.invokevirtual 274) 1 kX1_cellBehind 3 0, o_ist (.istore 9) 9, o_ild (.iload 7) 7, o_int (.iconst 4) 4, o_icmpge 16 142, o_ald (.aload_n 0) 0, o_getf (.getfield 12) 1 0, o_getf (.getfield 109) 2 6, o_ild (.iload 9) 9, o_lda .baload [1, 2, 22], o_ifne 38 177, o_fall 142] else
  if p = 142 then [o_ald (.aload_n 0) 0, o_ild (.iload_n 1) 1, o_ild (.iload 9) 9, o_cv (.invokevirtual 277) 1 kX1_nippedAt 2 0, o_ifeq 6 155, o_goto 25 177] else
  if p = 155 then [o_ald (.aload_n 0) 0, o_ild (.iload_n 1) 1, o_int (.iconst 1) 1, o_iadd, o_ild (.iload 9) 9, o_ild (.iload_n 3) 3, o_ild (.iload 8) 8, o_isub, o_ild (.iload 7) 7, o_ild (.iload 4) 4, o_cs (.invokestatic 280) kX1_fires 2 0, o_cv (.invokevirtual 308) 1 kX1_comesHome 4 0, o_ist (.istore 6) 6, o_fall 177] else
  if p = 177 then [o_inc 7 1, o_goto (-101) 79] else
  if p = 183 then [o_ald (.aload_n 0) 0, o_getf (.getfield 46) 1 14, o_ild (.iload 5) 5, o_ild (.iload 6) 6, o_ifeq 7 198, o_int (.iconst 1) 1, o_goto 4 199] else
  if p = 198 then [o_int (.iconst 0) 0, o_fall 199] else
  if p = 199 then [o_sta .iastore [0], o_ild (.iload 6) 6, o_iret 1] else
  []
def mX1_walk : Nat → List tp_Op := fun p => 
  if p = 0 then [o_ild (.iload_n 1) 1, o_int (.iconst 0) 0, o_ald (.aload_n 0) 0, o_getf (.getfield 12) 1 0, o_getf (.getfield 112) 2 0, o_int (.iconst 5) 5, o_lda .iaload [0, 20], o_cs (.invokestatic 94) kX1_in 3 0, o_ifeq 12 26, o_ald (.aload_n 0) 0, o_cv (.invokevirtual 287) 1 kX1_ship_2 0 0, o_int (.iconst 3) 3, o_lda .iaload [0, 20], o_ifeq 5 28, o_fall 26] else
  if p = 26 then [o_int (.iconst (-1)) (-1), o_iret 0] else
  if p = 28 then [o_ald (.aload_n 0) 0, o_cv (.invokevirtual 305) 1 kX1_laysPath 0 0, o_ild (.iload_n 1) 1, o_ald (.aload_n 0) 0, o_getf (.getfield 302) 1 16, o_icmple 7 44, o_int (.iconst (-1)) (-1), o_goto 8 49] else
  if p = 44 then [o_ald (.aload_n 0) 0, o_ild (.iload_n 1) 1, o_cv (.invokevirtual 315) 1 kX1_walkFrom 1 0, o_fall 49] else
  if p = 49 then [o_iret 0] else
  []
def mX1_walkFrom : Nat → List tp_Op := fun p => 
  if p = 0 then [o_int (.bipush 36) 36, o_newa (.newarray .boolean) 1, o_ast (.astore_n 2) 2, o_ald (.aload_n 2) 2, o_ald (.aload_n 0) 0, o_getf (.getfield 49) 1 15, o_ild (.iload_n 1) 1, o_lda .aaload [4, 5, 6, 7, 28, 29], o_int (.iconst 0) 0, o_lda .iaload [0, 20], o_int (.iconst 1) 1, o_sta .bastore [1, 2], o_ald (.aload_n 0) 0, o_getf (.getfield 12) 1 0, o_getf (.getfield 105) 2 7, o_ald (.aload_n 0) 0, o_getf (.getfield 49) 1 15, o_ild (.iload_n 1) 1, o_lda .aaload [4, 5, 6, 7, 28, 29], o_int (.iconst 0) 0, o_lda .iaload [0, 20], o_lda .baload [1, 2, 22], o_ifeq 5 37, o_int (.iconst 0) 0, o_iret 0] else
  if p = 37 then [o_ild (.iload_n 1) 1, o_ist (.istore_n 3) 3, o_fall 39] else
  if p = 39 then [o_ild (.iload_n 3) 3, o_ald (.aload_n 0) 0, o_getf (.getfield 254) 1 11, o_icmpge 215 259, o_int (.bipush 36) 36, o_newa (.newarray .boolean) 1, o_ast (.astore 4) 4, o_int (.iconst 0) 0, o_ist (.istore 5) 5, o_fall 56] else
  if p = 56 then [o_ild (.iload 5) 5, o_ald (.aload_n 0) 0, o_getf (.getfield 87) 1 4, o_icmpge 143 205, o_ald (.aload_n 2) 2, o_ild (.iload 5) 5, o_lda .baload [1, 2, 22], o_ifne 6 75, o_goto 127 199] else
  if p = 75 then [o_ald (.aload 4) 4, o_ald (.aload_n 0) 0, o_ild (.iload 5) 5, o_ald (.aload_n 0) 0, o_getf (.getfield 37) 1 12, o_ild (.iload_n 3) 3, o_lda .iaload [0, 20], o_cv (.invokevirtual 246) 1 kX1_drifts 2 0, o_int (.iconst 1) 1, o_sta .bastore [1, 2], o_int (.iconst 0) 0, o_ist (.istore 6) 6, o_fall 94] else
  if p = 94 then [o_ild (.iload 6) 6, o_int (.iconst 4) 4, o_icmpge 102 199, o_ald (.aload_n 0) 0, o_ild (.iload 5) 5, o_ild (.iload 6) 6, o_cs (.invokestatic 169) kX1_dx 1 0, o_ild (.iload 6) 6, o_cs (.invokestatic 173) kX1_dy 1 0, o_cv (.invokevirtual 165) 1 kX1_beside 3 0, o_ist (.istore 7) 7, o_ild (.iload 7) 7, o_int (.iconst (-1)) (-1), o_icmpeq 72 193, o_ald (.aload_n 0) 0, o_ald (.aload_n 0) 0, o_getf (.getfield 42) 1 13, o_ild (.iload_n 3) 3, o_lda .aaload [4, 5, 6, 7, 28, 29], o_ild (.iload 7) 7, o_ald (.aload_n 0) 0, o_ild (.iload_n 3) 3, o_cv (.invokevirtual 263) 1 kX1_windAt 1 0, o_ald (.aload_n 0) 0, o_getf (.getfield 12) 1 0, o_getf (.getfield 112) 2 0, o_int (.iconst 0) 0, o_lda .iaload [0, 20], o_ild (.iload_n 3) 3, o_iadd, o_cv (.invokevirtual 312) 1 kX1_walks 4 0, o_ifne 6 158, o_goto 38 193] else
  if p = 158 then [o_ald (.aload_n 0) 0, o_getf (.getfield 12) 1 0, o_getf (.getfield 105) 2 7, o_ild (.iload 7) 7, o_lda .baload [1, 2, 22], o_ifeq 9 177, o_ild (.iload_n 3) 3, o_ild (.iload_n 1) 1, o_isub, o_int (.iconst 1) 1, o_iadd, o_iret 0] else
  if p = 177 then [o_ald (.aload 4) 4, o_ald (.aload_n 0) 0, o_ild (.iload 7) 7, o_ald (.aload_n 0) 0, o_getf (.getfield 37) 1 12, o_ild (.iload_n 3) 3, o_lda .iaload [0, 20], o_cv (.invokevirtual 246) 1 kX1_drifts 2 0, o_int (.iconst 1) 1, o_sta .bastore [1, 2], o_fall 193] else
  if p = 193 then [o_inc 6 1, o_goto (-102) 94] else
  if p = 199 then [o_inc 5 1, o_goto (-146) 56] else
  if p = 205 then [o_int (.iconst 0) 0, o_ist (.istore 5) 5, o_fall 208] else
  if p = 208 then [o_ild (.iload 5) 5, o_ald (.aload_n 0) 0, o_getf (.getfield 87) 1 4, o_icmpge 36 250, o_ald (.aload 4) 4, o_ild (.iload 5) 5, o_lda .baload [1, 2, 22], o_ifeq 22 244, o_ald (.aload_n 0) 0, o_getf (.getfield 12) 1 0, o_getf (.getfield 105) 2 7, o_ild (.iload 5) 5, o_lda .baload [1, 2, 22], o_ifeq 9 244, o_ild (.iload_n 3) 3, o_ild (.iload_n 1) 1, o_isub, o_int (.iconst 1) 1, o_iadd, o_iret 0] else
  if p = 244 then [o_inc 5 1, o_goto (-39) 208] else
  if p = 250 then [o_ald (.aload 4) 4, o_ast (.astore_n 2) 2, o_inc 3 1, o_goto (-217) 39] else
  if p = 259 then [o_int (.iconst (-1)) (-1), o_iret 0] else
  []
def mX1_walks : Nat → List tp_Op := fun p => 
  if p = 0 then [o_ald (.aload_n 0) 0, o_cv (.invokevirtual 176) 1 kX1_rules 0 0, o_ast (.astore 5) 5, o_ald (.aload 5) 5, o_ifnull 14 22, o_ald (.aload 5) 5, o_getf (.getfield 217) 5 2, o_cv (.invokevirtual 185) 15 kJ4_isEmpty 0 0, o_ifeq 17 36, o_fall 22] else
  if p = 22 then [o_ald (.aload_n 1) 1, o_ild (.iload_n 2) 2, o_lda .iaload [0, 20], o_int (.bipush 10) 10, o_icmplt 7 34, o_int (.iconst 1) 1, o_goto 4 35] else
  if p = 34 then [o_int (.iconst 0) 0, o_fall 35] else
  if p = 35 then [o_iret 1] else
  if p = 36 then [o_ald (.aload_n 0) 0, o_ald (.aload_n 1) 1, o_ild (.iload_n 2) 2, o_ild (.iload_n 3) 3, o_ild (.iload 4) 4, o_cv (.invokevirtual 191) 1 kX1_names 4 0, o_ald (.aload 5) 5, o_getf (.getfield 217) 5 2, o_ald (.aload_n 0) 0, o_getf (.getfield 30) 1 9, o_cs (.invokestatic 194) kX5_some 2 0, o_iret 1] else
  []
def mX1_leave : Nat → List tp_Op := fun p => 
  if p = 0 then [o_ald (.aload_n 0) 0, o_cv (.invokevirtual 287) 1 kX1_ship_2 0 0, o_int (.iconst 3) 3, o_lda .iaload [0, 20], o_ifeq 5 11, o_int (.iconst (-1)) (-1), o_iret 0] else
  if p = 11 then [o_ald (.aload_n 0) 0, o_cv (.invokevirtual 305) 1 kX1_laysPath 0 0, o_ald (.aload_n 0) 0, o_getf (.getfield 302) 1 16, o_ist (.istore_n 1) 1, o_fall 20] else
  if p = 20 then [o_ild (.iload_n 1) 1, o_iflt 20 41, o_ald (.aload_n 0) 0, o_ild (.iload_n 1) 1, o_cv (.invokevirtual 315) 1 kX1_walkFrom 1 0, o_int (.iconst (-1)) (-1), o_icmpeq 5 35, o_ild (.iload_n 1) 1, o_iret 0] else
  if p = 35 then [o_inc 1 (-1), o_goto (-18) 20] else
  if p = 41 then [o_int (.iconst (-1)) (-1), o_iret 0] else
  []
def mX1_winter : Nat → List tp_Op := fun p => 
  if p = 0 then [o_ild (.iload_n 1) 1, o_int (.iconst 0) 0, o_int (.iconst 1) 1, o_cs (.invokestatic 94) kX1_in 3 0, o_ifne 16 22, o_ald (.aload_n 0) 0, o_ild (.iload_n 1) 1, o_int (.bipush 10) 10, o_isub, o_cv (.invokevirtual 98) 1 kX1_isCell 1 0, o_ifne 5 22, o_int (.iconst (-1)) (-1), o_iret 0] else
  if p = 22 then [o_ald (.aload_n 0) 0, o_cv (.invokevirtual 290) 1 kX1_laysAhead 0 0, o_ild (.iload_n 1) 1, o_int (.iconst 1) 1, o_icmple 12 40, o_ald (.aload_n 0) 0, o_ild (.iload_n 1) 1, o_int (.bipush 10) 10, o_isub, o_cv (.invokevirtual 318) 1 kX1_nipsFrom 1 0, o_iret 0] else
  if p = 40 then [o_int (.iconst 0) 0, o_ist (.istore_n 2) 2, o_int (.iconst 1) 1, o_ist (.istore_n 3) 3, o_fall 44] else
  if p = 44 then [o_ild (.iload_n 3) 3, o_ald (.aload_n 0) 0, o_getf (.getfield 87) 1 4, o_icmpge 24 73, o_ald (.aload_n 0) 0, o_ild (.iload_n 3) 3, o_cv (.invokevirtual 318) 1 kX1_nipsFrom 1 0, o_ald (.aload_n 0) 0, o_ild (.iload_n 2) 2, o_cv (.invokevirtual 318) 1 kX1_nipsFrom 1 0, o_icmpge 5 67, o_ild (.iload_n 3) 3, o_ist (.istore_n 2) 2, o_fall 67] else
  if p = 67 then [o_inc 3 1, o_goto (-26) 44] else
  if p = 73 then [o_ild (.iload_n 1) 1, o_ifne 7 81, o_ild (.iload_n 2) 2, o_goto 8 86] else
  if p = 81 then [o_ald (.aload_n 0) 0, o_ild (.iload_n 2) 2, o_cv (.invokevirtual 318) 1 kX1_nipsFrom 1 0, o_fall 86] else
  if p = 86 then [o_iret 0] else
  []
def mX1_nipsFrom : Nat → List tp_Op := fun p => 
  if p = 0 then [o_int (.iconst 0) 0, o_ist (.istore_n 2) 2, o_ild (.iload_n 1) 1, o_ist (.istore_n 3) 3, o_int (.iconst 0) 0, o_ist (.istore 4) 4, o_fall 7] else
  if p = 7 then [o_ild (.iload 4) 4, o_ald (.aload_n 0) 0, o_getf (.getfield 254) 1 11, o_icmpge 40 53, o_ald (.aload_n 0) 0, o_ild (.iload_n 3) 3, o_ald (.aload_n 0) 0, o_getf (.getfield 37) 1 12, o_ild (.iload 4) 4, o_lda .iaload [0, 20], o_cv (.invokevirtual 246) 1 kX1_drifts 2 0, o_ist (.istore_n 3) 3, o_ild (.iload_n 2) 2, o_ald (.aload_n 0) 0, o_ild (.iload 4) 4, o_ild (.iload_n 3) 3, o_cv (.invokevirtual 277) 1 kX1_nippedAt 2 0, o_ifeq 7 44, o_int (.iconst 1) 1, o_goto 4 45] else
  if p = 44 then [o_int (.iconst 0) 0, o_fall 45] else
  if p = 45 then [o_iadd, o_ist (.istore_n 2) 2, o_inc 4 1, o_goto (-43) 7] else
  if p = 53 then [o_ild (.iload_n 2) 2, o_iret 0] else
  []
def mX1_surest : Nat → List tp_Op := fun p => 
  if p = 0 then [o_ild (.iload_n 1) 1, o_int (.iconst 1) 1, o_int (.iconst 3) 3, o_cs (.invokestatic 94) kX1_in 3 0, o_ifeq 12 18, o_ild (.iload_n 2) 2, o_int (.iconst 0) 0, o_int (.iconst 2) 2, o_cs (.invokestatic 94) kX1_in 3 0, o_ifne 5 20, o_fall 18] else
  if p = 18 then [o_int (.iconst (-1)) (-1), o_iret 0] else
  if p = 20 then [o_ald (.aload_n 0) 0, o_cv (.invokevirtual 287) 1 kX1_ship_2 0 0, o_ast (.astore_n 3) 3, o_ald (.aload_n 3) 3, o_int (.iconst 3) 3, o_lda .iaload [0, 20], o_ifeq 33 61, o_ild (.iload_n 2) 2, o_int (.iconst 1) 1, o_icmpne 7 40, o_int (.iconst (-1)) (-1), o_goto 23 60] else
  if p = 40 then [o_ild (.iload_n 2) 2, o_ifne 18 59, o_ald (.aload_n 3) 3, o_int (.iconst 3) 3, o_lda .iaload [0, 20], o_int (.iconst 1) 1, o_icmpne 11 59, o_gs (.getstatic 325) 6, o_ild (.iload_n 1) 1, o_lda .iaload [0, 20], o_goto 4 60] else
  if p = 59 then [o_int (.iconst 0) 0, o_fall 60] else
  if p = 60 then [o_iret 0] else
  if p = 61 then [o_ald (.aload_n 0) 0, o_int (.iconst 0) 0, o_ild (.iload_n 1) 1, o_ald (.aload_n 0) 0, o_getf (.getfield 12) 1 0, o_getf (.getfield 102) 2 1, o_ald (.aload_n 0) 0, o_getf (.getfield 12) 1 0, o_getf (.getfield 112) 2 0, o_int (.iconst 1) 1, o_lda .iaload [0, 20], o_ald (.aload_n 3) 3, o_int (.iconst 0) 0, o_lda .iaload [0, 20], o_ald (.aload_n 3) 3, o_int (.iconst 1) 1, o_lda .iaload [0, 20], o_ald (.aload_n 3) 3, o_int (.iconst 2) 2, o_lda .iaload [0, 20], o_cv (.invokevirtual 328) 1 kX1_surest_2 7 0, o_ist (.istore 4) 4, o_ild (.iload_n 2) 2, o_ifne 6 101, o_ild (.iload 4) 4, o_iret 0] else
  if p = 101 then [o_ild (.iload_n 2) 2, o_int (.iconst 2) 2, o_icmpne 12 115, o_ald (.aload_n 0) 0, o_ild (.iload_n 1) 1, o_cv (.invokevirtual 334) 1 kX1_known 1 0, o_ild (.iload 4) 4, o_isub, o_iret 0] else
  if p = 115 then [o_int (.iconst 0) 0, o_ist (.istore 5) 5, o_fall 118] else
  if p = 118 then [o_ald (.aload_n 0) 0, o_int (.iconst 0) 0, o_ild (.iload_n 1) 1, o_ald (.aload_n 0) 0, o_getf (.getfield 12) 1 0, o_getf (.getfield 102) 2 1, o_ald (.aload_n 0) 0, o_getf (.getfield 12) 1 0, o_getf (.getfield 112) 2 0, o_int (.iconst 1) 1, o_lda .iaload [0, 20], o_ald (.aload_n 3) 3, o_int (.iconst 0) 0, o_lda .iaload [0, 20], o_ald (.aload_n 3) 3, o_int (.iconst 1) 1, o_lda .iaload [0, 20], o_ald (.aload_n 3) 3, o_int (.iconst 2) 2, o_lda .iaload [0, 20], o_ild (.iload 5) 5, o_cv (.invokevirtual 321) 1 kX1_surestBy 8 0, o_ild (.iload 4) 4, o_icmpeq 9 162, o_inc 5 1, o_goto (-41) 118] else
  if p = 162 then [o_ild (.iload 5) 5, o_iret 0] else
  []
def mX1_surest_2 : Nat → List tp_Op := fun p => 
  if p = 0 then [o_ild (.iload_n 1) 1, o_ild (.iload_n 2) 2, o_icmpne 5 7, o_int (.iconst 0) 0, o_iret 0] else
  if p = 7 then [o_int (.iconst 0) 0, o_ist (.istore 8) 8, o_int (.iconst 0) 0, o_ist (.istore 9) 9, o_fall 13] else
  if p = 13 then [o_ild (.iload 9) 9, o_int (.iconst 4) 4, o_icmpge 52 68, o_ald (.aload_n 0) 0, o_getf (.getfield 12) 1 0, o_getf (.getfield 121) 2 9, o_ild (.iload 4) 4, o_lda .aaload [4, 5, 6, 7, 28, 29], o_ild (.iload 9) 9, o_lda .iaload [0, 20], o_ifle 30 62, o_ald (.aload_n 0) 0, o_ald (.aload_n 3) 3, o_ald (.aload_n 0) 0, o_getf (.getfield 54) 1 17, o_ild (.iload_n 1) 1, o_lda .aaload [4, 5, 6, 7, 28, 29], o_ild (.iload 9) 9, o_lda .aaload [4, 5, 6, 7, 28, 29], o_ild (.iload 9) 9, o_ald (.aload_n 0) 0, o_getf (.getfield 12) 1 0, o_getf (.getfield 112) 2 0, o_int (.iconst 0) 0, o_lda .iaload [0, 20], o_ild (.iload_n 1) 1, o_iadd, o_cv (.invokevirtual 242) 1 kX1_goes 4 0, o_fall 62] else
  if p = 62 then [o_inc 9 1, o_goto (-52) 13] else
  if p = 68 then [o_int (.iconst 0) 0, o_ist (.istore 9) 9, o_fall 71] else
  if p = 71 then [o_ild (.iload 9) 9, o_int (.bipush 7) 7, o_icmpgt 33 108, o_ild (.iload 8) 8, o_ald (.aload_n 0) 0, o_ild (.iload_n 1) 1, o_ild (.iload_n 2) 2, o_ald (.aload_n 3) 3, o_ild (.iload 4) 4, o_ild (.iload 5) 5, o_ild (.iload 6) 6, o_ild (.iload 7) 7, o_ild (.iload 9) 9, o_cv (.invokevirtual 321) 1 kX1_surestBy 8 0, o_mmax (.invokestatic 78), o_ist (.istore 8) 8, o_inc 9 1, o_goto (-34) 71] else
  if p = 108 then [o_ild (.iload 8) 8, o_iret 0] else
  []
def mX1_surestBy : Nat → List tp_Op := fun p => 
  if p = 0 then [o_ald (.aload_n 0) 0, o_ild (.iload 8) 8, o_ild (.iload 5) 5, o_ild (.iload 6) 6, o_ild (.iload 7) 7, o_ald (.aload_n 3) 3, o_ild (.iload 4) 4, o_ald (.aload_n 0) 0, o_getf (.getfield 12) 1 0, o_getf (.getfield 112) 2 0, o_int (.iconst 0) 0, o_lda .iaload [0, 20], o_ild (.iload_n 1) 1, o_iadd, o_cv (.invokevirtual 232) 1 kX1_costOf 7 0, o_ist (.istore 9) 9, o_ild (.iload 9) 9, o_int (.iconst (-1)) (-1), o_icmpne 5 36, o_int (.iconst (-1)) (-1), o_iret 0] else
  if p = 36 then [o_ild (.iload 8) 8, o_int (.iconst 4) 4, o_icmpge 22 61, o_ald (.aload_n 0) 0, o_ild (.iload 5) 5, o_ild (.iload 8) 8, o_cs (.invokestatic 169) kX1_dx 1 0, o_ild (.iload 8) 8, o_cs (.invokestatic 173) kX1_dy 1 0, o_cv (.invokevirtual 165) 1 kX1_beside 3 0, o_goto 5 63] else
  if p = 61 then [o_ild (.iload 5) 5, o_fall 63] else
  if p = 63 then [o_ist (.istore 10) 10, o_ild (.iload 8) 8, o_int (.iconst 4) 4, o_icmpge 24 92, o_ald (.aload_n 0) 0, o_getf (.getfield 12) 1 0, o_getf (.getfield 109) 2 6, o_ild (.iload 10) 10, o_lda .baload [1, 2, 22], o_ifeq 11 92, o_gs (.getstatic 325) 6, o_ild (.iload_n 2) 2, o_ild (.iload_n 1) 1, o_isub, o_lda .iaload [0, 20], o_iret 0] else
  if p = 92 then [o_int (.iconst 0) 0, o_ist (.istore 11) 11, o_int (.iconst 0) 0, o_ist (.istore 12) 12, o_fall 98] else
  if p = 98 then [o_ild (.iload 12) 12, o_int (.iconst 4) 4, o_icmpge 138 239, o_ald (.aload_n 0) 0, o_getf (.getfield 12) 1 0, o_getf (.getfield 121) 2 9, o_ild (.iload 4) 4, o_lda .aaload [4, 5, 6, 7, 28, 29], o_ild (.iload 12) 12, o_lda .iaload [0, 20], o_ifne 6 123, o_goto 113 233] else
  if p = 123 then [o_ild (.iload 8) 8, o_int (.iconst 4) 4, o_icmplt 9 135, o_ild (.iload 8) 8, o_int (.iconst 5) 5, o_icmpne 8 140, o_fall 135] else
  if p = 135 then [o_ild (.iload 10) 10, o_goto 11 148] else
  if p = 140 then [o_ald (.aload_n 0) 0, o_ild (.iload 10) 10, o_ild (.iload 12) 12, o_cv (.invokevirtual 246) 1 kX1_drifts 2 0, o_fall 148] else
  if p = 148 then [o_ist (.istore 13) 13, o_ald (.aload_n 0) 0, o_ald (.aload_n 0) 0, o_getf (.getfield 54) 1 17, o_ild (.iload_n 1) 1, o_lda .aaload [4, 5, 6, 7, 28, 29], o_ild (.iload 12) 12, o_lda .aaload [4, 5, 6, 7, 28, 29], o_ild (.iload 13) 13, o_ild (.iload 12) 12, o_ald (.aload_n 0) 0, o_getf (.getfield 12) 1 0, o_getf (.getfield 112) 2 0, o_int (.iconst 0) 0, o_lda .iaload [0, 20], o_ild (.iload_n 1) 1, o_iadd, o_cv (.invokevirtual 249) 1 kX1_nips 4 0, o_ifne 55 233, o_ild (.iload 11) 11, o_ald (.aload_n 0) 0, o_getf (.getfield 12) 1 0, o_getf (.getfield 121) 2 9, o_ild (.iload 4) 4, o_lda .aaload [4, 5, 6, 7, 28, 29], o_ild (.iload 12) 12, o_lda .iaload [0, 20], o_ald (.aload_n 0) 0, o_ild (.iload_n 1) 1, o_int (.iconst 1) 1, o_iadd, o_ild (.iload_n 2) 2, o_ald (.aload_n 0) 0, o_getf (.getfield 54) 1 17, o_ild (.iload_n 1) 1, o_lda .aaload [4, 5, 6, 7, 28, 29], o_ild (.iload 12) 12, o_lda .aaload [4, 5, 6, 7, 28, 29], o_ild (.iload 12) 12, o_ild (.iload 13) 13, o_ild (.iload 6) 6, o_ild (.iload 9) 9, o_isub, o_ild (.iload 8) 8, o_ild (.iload 7) 7, o_cs (.invokestatic 280) kX1_fires 2 0, o_cv (.invokevirtual 328) 1 kX1_surest_2 7 0, o_imul, o_iadd, o_ist (.istore 11) 11, o_fall 233] else
  if p = 233 then [o_inc 12 1, o_goto (-138) 98] else
  if p = 239 then [o_ild (.iload 11) 11, o_iret 0] else
  []
def mX1_known : Nat → List tp_Op := fun p => 
  if p = 0 then [o_int (.iconst 0) 0, o_ist (.istore_n 2) 2, o_ald (.aload_n 0) 0, o_ild (.iload_n 1) 1, o_putf (.putfield 254) 1 11 0, o_int (.iconst 0) 0, o_ist (.istore_n 3) 3, o_fall 9] else
  if p = 9 then [o_ild (.iload_n 3) 3, o_int (.iconst 1) 1, o_int (.iconst 2) 2, o_ild (.iload_n 1) 1, o_imul, o_ishl, o_icmpge 152 167, o_int (.iconst 1) 1, o_ist (.istore 4) 4, o_ald (.aload_n 0) 0, o_getf (.getfield 12) 1 0, o_getf (.getfield 112) 2 0, o_int (.iconst 1) 1, o_lda .iaload [0, 20], o_ist (.istore 5) 5, o_int (.iconst 0) 0, o_ist (.istore 6) 6, o_fall 35] else
  if p = 35 then [o_ild (.iload 6) 6, o_ild (.iload_n 1) 1, o_icmpge 56 94, o_ald (.aload_n 0) 0, o_getf (.getfield 37) 1 12, o_ild (.iload 6) 6, o_ild (.iload_n 3) 3, o_int (.iconst 2) 2, o_ild (.iload 6) 6, o_imul, o_ishr, o_int (.iconst 3) 3, o_iand, o_sta .iastore [0], o_ild (.iload 4) 4, o_ald (.aload_n 0) 0, o_getf (.getfield 12) 1 0, o_getf (.getfield 121) 2 9, o_ild (.iload 5) 5, o_lda .aaload [4, 5, 6, 7, 28, 29], o_ald (.aload_n 0) 0, o_getf (.getfield 37) 1 12, o_ild (.iload 6) 6, o_lda .iaload [0, 20], o_lda .iaload [0, 20], o_imul, o_ist (.istore 4) 4, o_ald (.aload_n 0) 0, o_getf (.getfield 37) 1 12, o_ild (.iload 6) 6, o_lda .iaload [0, 20], o_ist (.istore 5) 5, o_inc 6 1, o_goto (-56) 35] else
  if p = 94 then [o_ild (.iload 4) 4, o_ifne 6 102, o_goto 62 161] else
  if p = 102 then [o_ald (.aload_n 0) 0, o_cv (.invokevirtual 260) 1 kX1_laysSea 0 0, o_ald (.aload_n 0) 0, o_getf (.getfield 46) 1 14, o_int (.iconst 0) 0, o_ild (.iload_n 1) 1, o_int (.sipush 200) 200, o_imul, o_int (.bipush 36) 36, o_imul, o_int (.iconst (-1)) (-1), o_cs (.invokestatic 332) kJ0_fill_2 4 0, o_ild (.iload_n 2) 2, o_ald (.aload_n 0) 0, o_int (.iconst 0) 0, o_ald (.aload_n 0) 0, o_cv (.invokevirtual 287) 1 kX1_ship_2 0 0, o_int (.iconst 0) 0, o_lda .iaload [0, 20], o_ald (.aload_n 0) 0, o_cv (.invokevirtual 287) 1 kX1_ship_2 0 0, o_int (.iconst 1) 1, o_lda .iaload [0, 20], o_ald (.aload_n 0) 0, o_cv (.invokevirtual 287) 1 kX1_ship_2 0 0, o_int (.iconst 2) 2, o_lda .iaload [0, 20], o_cv (.invokevirtual 283) 1 kX1_soonest_2 4 0, o_int (.ldc_w 266) 1000000, o_icmpne 7 157, o_int (.iconst 0) 0, o_goto 5 159] else
  if p = 157 then [o_ild (.iload 4) 4, o_fall 159] else
  if p = 159 then [o_iadd, o_ist (.istore_n 2) 2, o_fall 161] else
  if p = 161 then [o_inc 3 1, o_goto (-155) 9] else
  if p = 167 then [o_ild (.iload_n 2) 2, o_iret 0] else
  []
def mX1_leads : Nat → List tp_Op := fun p => 
  if p = 0 then [o_ild (.iload_n 1) 1, o_int (.iconst (-1)) (-1), o_icmpeq 13 15, o_ald (.aload_n 0) 0, o_ild (.iload_n 1) 1, o_cv (.invokevirtual 98) 1 kX1_isCell 1 0, o_ifne 5 15, o_int (.iconst (-1)) (-1), o_iret 0] else
  if p = 15 then [o_ald (.aload_n 0) 0, o_getf (.getfield 57) 1 18, o_int (.iconst (-1)) (-1), o_cs (.invokestatic 293) kJ0_fill 2 0, o_int (.iconst 1) 1, o_ist (.istore_n 2) 2, o_ald (.aload_n 0) 0, o_getf (.getfield 60) 1 19, o_int (.iconst 0) 0, o_ald (.aload_n 0) 0, o_cv (.invokevirtual 287) 1 kX1_ship_2 0 0, o_int (.iconst 0) 0, o_lda .iaload [0, 20], o_sta .iastore [0], o_ald (.aload_n 0) 0, o_getf (.getfield 57) 1 18, o_ald (.aload_n 0) 0, o_getf (.getfield 60) 1 19, o_int (.iconst 0) 0, o_lda .iaload [0, 20], o_int (.iconst 0) 0, o_sta .iastore [0], o_int (.iconst 0) 0, o_ist (.istore_n 3) 3, o_fall 51] else
  if p = 51 then [o_ild (.iload_n 3) 3, o_ild (.iload_n 2) 2, o_icmpge 148 201, o_ald (.aload_n 0) 0, o_getf (.getfield 60) 1 19, o_ild (.iload_n 3) 3, o_lda .iaload [0, 20], o_ist (.istore 4) 4, o_int (.iconst 0) 0, o_ist (.istore 5) 5, o_fall 67] else
  if p = 67 then [o_ild (.iload 5) 5, o_int (.iconst 4) 4, o_icmpge 125 195, o_ild (.iload_n 3) 3, o_ifeq 16 90, o_ald (.aload_n 0) 0, o_getf (.getfield 12) 1 0, o_getf (.getfield 109) 2 6, o_ild (.iload 4) 4, o_lda .baload [1, 2, 22], o_ifne 108 195, o_fall 90] else
  if p = 90 then [o_ald (.aload_n 0) 0, o_ild (.iload 4) 4, o_ild (.iload 5) 5, o_cs (.invokestatic 169) kX1_dx 1 0, o_ild (.iload 5) 5, o_cs (.invokestatic 173) kX1_dy 1 0, o_cv (.invokevirtual 165) 1 kX1_beside 3 0, o_ist (.istore 6) 6, o_ild (.iload 6) 6, o_int (.iconst (-1)) (-1), o_icmpeq 78 189, o_ald (.aload_n 0) 0, o_getf (.getfield 57) 1 18, o_ild (.iload 6) 6, o_lda .iaload [0, 20], o_int (.iconst (-1)) (-1), o_icmpne 67 189, o_ald (.aload_n 0) 0, o_ald (.aload_n 0) 0, o_getf (.getfield 12) 1 0, o_getf (.getfield 102) 2 1, o_ild (.iload 6) 6, o_ald (.aload_n 0) 0, o_getf (.getfield 12) 1 0, o_getf (.getfield 112) 2 0, o_int (.iconst 1) 1, o_lda .iaload [0, 20], o_ald (.aload_n 0) 0, o_getf (.getfield 12) 1 0, o_getf (.getfield 112) 2 0, o_int (.iconst 0) 0, o_lda .iaload [0, 20], o_cv (.invokevirtual 222) 1 kX1_may 4 0, o_ifne 6 162, o_goto 30 189] else
  if p = 162 then [o_ald (.aload_n 0) 0, o_getf (.getfield 57) 1 18, o_ild (.iload 6) 6, o_ald (.aload_n 0) 0, o_getf (.getfield 57) 1 18, o_ild (.iload 4) 4, o_lda .iaload [0, 20], o_int (.iconst 1) 1, o_iadd, o_sta .iastore [0], o_ald (.aload_n 0) 0, o_getf (.getfield 60) 1 19, o_ild (.iload_n 2) 2, o_ild (.iload 6) 6, o_sta .iastore [0], o_inc 2 1, o_fall 189] else
  if p = 189 then [o_inc 5 1, o_goto (-125) 67] else
  if p = 195 then [o_inc 3 1, o_goto (-147) 51] else
  if p = 201 then [o_ild (.iload_n 1) 1, o_int (.iconst (-1)) (-1), o_icmpne 7 210, o_ild (.iload_n 2) 2, o_goto 9 216] else
  if p = 210 then [o_ald (.aload_n 0) 0, o_getf (.getfield 57) 1 18, o_ild (.iload_n 1) 1, o_lda .iaload [0, 20], o_fall 216] else
  if p = 216 then [o_iret 0] else
  []
def mX1_prior : Nat → List tp_Op := fun p => 
  if p = 0 then [o_ild (.iload_n 1) 1, o_cs (.invokestatic 337) kX1_isClass 1 0, o_ifeq 13 17, o_ild (.iload_n 2) 2, o_int (.iconst 0) 0, o_int (.bipush 9) 9, o_cs (.invokestatic 94) kX1_in 3 0, o_ifne 5 19, o_fall 17] else
  if p = 17 then [o_int (.iconst 0) 0, o_iret 1] else
  if p = 19 then [o_ald (.aload_n 0) 0, o_getf (.getfield 12) 1 0, o_getf (.getfield 340) 2 5, o_ild (.iload_n 1) 1, o_ild (.iload_n 2) 2, o_sta .iastore [0], o_int (.iconst 1) 1, o_iret 1] else
  []
def mX1_isClass : Nat → List tp_Op := fun p => 
  if p = 0 then [o_ild (.iload_n 0) 0, o_int (.iconst 0) 0, o_int (.iconst 5) 5, o_cs (.invokestatic 94) kX1_in 3 0, o_iret 1] else
  []
def mX1_look : Nat → List tp_Op := fun p => 
  if p = 0 then [o_ald (.aload_n 0) 0, o_ild (.iload_n 1) 1, o_cv (.invokevirtual 98) 1 kX1_isCell 1 0, o_ifeq 25 30, o_ild (.iload_n 2) 2, o_cs (.invokestatic 337) kX1_isClass 1 0, o_ifeq 18 30, o_ald (.aload_n 0) 0, o_getf (.getfield 12) 1 0, o_getf (.getfield 112) 2 0, o_int (.bipush 7) 7, o_lda .iaload [0, 20], o_int (.bipush 30) 30, o_icmpne 5 32, o_fall 30] else
  if p = 30 then [o_int (.iconst (-1)) (-1), o_iret 0] else
  if p = 32 then [o_ald (.aload_n 0) 0, o_getf (.getfield 12) 1 0, o_getf (.getfield 251) 2 11, o_ald (.aload_n 0) 0, o_getf (.getfield 12) 1 0, o_getf (.getfield 112) 2 0, o_int (.bipush 7) 7, o_lda .iaload [0, 20], o_lda .aaload [4, 5, 6, 7, 28, 29], o_int (.iconst 0) 0, o_ild (.iload_n 1) 1, o_sta .iastore [0], o_ald (.aload_n 0) 0, o_getf (.getfield 12) 1 0, o_getf (.getfield 251) 2 11, o_ald (.aload_n 0) 0, o_getf (.getfield 12) 1 0, o_getf (.getfield 112) 2 0, o_int (.bipush 7) 7, o_lda .iaload [0, 20], o_lda .aaload [4, 5, 6, 7, 28, 29], o_int (.iconst 1) 1, o_ild (.iload_n 2) 2, o_sta .iastore [0], o_ald (.aload_n 0) 0, o_getf (.getfield 12) 1 0, o_getf (.getfield 112) 2 0, o_int (.bipush 7) 7, o_dup2, o_lda .iaload [0, 20], o_int (.iconst 1) 1, o_iadd, o_sta .iastore [0], o_ald (.aload_n 0) 0, o_getf (.getfield 12) 1 0, o_getf (.getfield 112) 2 0, o_int (.bipush 7) 7, o_lda .iaload [0, 20], o_iret 0] else
  []
def mX1_think : Nat → List tp_Op := fun p => 
  if p = 0 then [o_ald (.aload_n 0) 0, o_ild (.iload_n 1) 1, o_cv (.invokevirtual 98) 1 kX1_isCell 1 0, o_ifeq 15 20, o_ild (.iload_n 2) 2, o_int (.iconst (-1)) (-1), o_icmpeq 12 22, o_ild (.iload_n 2) 2, o_cs (.invokestatic 337) kX1_isClass 1 0, o_ifne 5 22, o_fall 20] else
  if p = 20 then [o_int (.iconst (-1)) (-1), o_iret 0] else
  if p = 22 then [o_int (.bipush 6) 6, o_newa (.newarray .long) 3, o_ast (.astore_n 3) 3, o_int (.iconst 0) 0, o_ist (.istore 4) 4, o_fall 30] else
  if p = 30 then [o_ild (.iload 4) 4, o_int (.bipush 6) 6, o_icmpge 24 58, o_ald (.aload_n 3) 3, o_ild (.iload 4) 4, o_ald (.aload_n 0) 0, o_getf (.getfield 12) 1 0, o_getf (.getfield 340) 2 5, o_ild (.iload 4) 4, o_lda .iaload [0, 20], o_i2l, o_sta .lastore [3], o_inc 4 1, o_goto (-25) 30] else
  if p = 58 then [o_int (.iconst 0) 0, o_ist (.istore 4) 4, o_ald (.aload_n 0) 0, o_getf (.getfield 12) 1 0, o_getf (.getfield 112) 2 0, o_int (.bipush 7) 7, o_lda .iaload [0, 20], o_int (.iconst 1) 1, o_isub, o_ist (.istore 5) 5, o_fall 75] else
  if p = 75 then [o_ild (.iload 5) 5, o_iflt 103 180, o_ald (.aload_n 0) 0, o_getf (.getfield 12) 1 0, o_getf (.getfield 251) 2 11, o_ild (.iload 5) 5, o_lda .aaload [4, 5, 6, 7, 28, 29], o_int (.iconst 0) 0, o_lda .iaload [0, 20], o_ild (.iload_n 1) 1, o_icmpeq 6 99, o_goto 78 174] else
  if p = 99 then [o_inc 4 1, o_int (.iconst 0) 0, o_ist (.istore 6) 6, o_fall 105] else
  if p = 105 then [o_ild (.iload 6) 6, o_int (.bipush 6) 6, o_icmpge 65 174, o_ild (.iload 4) 4, o_int (.bipush 12) 12, o_icmpgt 58 174, o_ild (.iload 6) 6, o_ald (.aload_n 0) 0, o_getf (.getfield 12) 1 0, o_getf (.getfield 251) 2 11, o_ild (.iload 5) 5, o_lda .aaload [4, 5, 6, 7, 28, 29], o_int (.iconst 1) 1, o_lda .iaload [0, 20], o_isub, o_mabs (.invokestatic 343), o_ist (.istore 7) 7, o_ald (.aload_n 3) 3, o_ild (.iload 6) 6, o_dup2, o_lda .laload [3], o_ild (.iload 7) 7, o_ifne 9 155, o_lng (.ldc2_w 346) 8, o_goto 14 166] else
  if p = 155 then [o_ild (.iload 7) 7, o_int (.iconst 1) 1, o_icmpne 7 165, o_lng (.lconst 1) 1, o_goto 4 166] else
  if p = 165 then [o_lng (.lconst 0) 0, o_fall 166] else
  if p = 166 then [o_lmul, o_sta .lastore [3], o_inc 6 1, o_goto (-66) 105] else
  if p = 174 then [o_inc 5 (-1), o_goto (-102) 75] else
  if p = 180 then [o_ild (.iload_n 2) 2, o_int (.iconst (-1)) (-1), o_icmpne 6 188, o_ild (.iload 4) 4, o_iret 0] else
  if p = 188 then [o_lng (.lconst 0) 0, o_lst (.lstore 5) 5, o_int (.iconst 0) 0, o_ist (.istore 7) 7, o_fall 194] else
  if p = 194 then [o_ild (.iload 7) 7, o_int (.bipush 6) 6, o_icmpge 18 216, o_lld (.lload 5) 5, o_ald (.aload_n 3) 3, o_ild (.iload 7) 7, o_lda .laload [3], o_ladd, o_lst (.lstore 5) 5, o_inc 7 1, o_goto (-19) 194] else
  if p = 216 then [o_lld (.lload 5) 5, o_lng (.lconst 0) 0, o_lcmp, o_ifne 7 227, o_int (.iconst (-1)) (-1), o_goto 14 238] else
  if p = 227 then [o_lng (.ldc2_w 348) 1000, o_ald (.aload_n 3) 3, o_ild (.iload_n 2) 2, o_lda .laload [3], o_lmul, o_lld (.lload 5) 5, o_ldiv, o_l2i, o_fall 238] else
  if p = 238 then [o_iret 0] else
  []
def mX1_run : Nat → List tp_Op := fun p => 
  if p = 0 then [o_ald (.aload_n 0) 0, o_ild (.iload_n 1) 1, o_ild (.iload_n 2) 2, o_ild (.iload_n 3) 3, o_cv (.invokevirtual 379) 1 kX1_isRun 3 0, o_ifeq 13 20, o_ild (.iload 4) 4, o_int (.iconst 0) 0, o_int (.iconst 3) 3, o_cs (.invokestatic 94) kX1_in 3 0, o_ifne 5 22, o_fall 20] else
  if p = 20 then [o_int (.iconst (-1)) (-1), o_iret 0] else
  if p = 22 then [o_ald (.aload_n 0) 0, o_ald (.aload_n 0) 0, o_getf (.getfield 12) 1 0, o_getf (.getfield 143) 2 12, o_ild (.iload_n 1) 1, o_lda .aaload [4, 5, 6, 7, 28, 29], o_ild (.iload_n 2) 2, o_ild (.iload_n 3) 3, o_cv (.invokevirtual 382) 1 kX1_runs 3 0, o_ald (.aload_n 0) 0, o_getf (.getfield 63) 1 20, o_ild (.iload 4) 4, o_lda .iaload [0, 20], o_iret 0] else
  []
def mX1_isRun : Nat → List tp_Op := fun p => 
  if p = 0 then [o_ald (.aload_n 0) 0, o_ild (.iload_n 1) 1, o_cv (.invokevirtual 162) 1 kX1_isText 1 0, o_ifeq 37 42, o_ild (.iload_n 2) 2, o_int (.iconst 0) 0, o_int (.sipush 9999) 9999, o_cs (.invokestatic 94) kX1_in 3 0, o_ifeq 26 42, o_ild (.iload_n 3) 3, o_int (.iconst 1) 1, o_int (.bipush 40) 40, o_cs (.invokestatic 94) kX1_in 3 0, o_ifeq 16 42, o_ald (.aload_n 0) 0, o_cv (.invokevirtual 287) 1 kX1_ship_2 0 0, o_int (.iconst 3) 3, o_lda .iaload [0, 20], o_ifne 7 42, o_int (.iconst 1) 1, o_goto 4 43] else
  if p = 42 then [o_int (.iconst 0) 0, o_fall 43] else
  if p = 43 then [o_iret 1] else
  []
def mX1_runs : Nat → List tp_Op := fun p => 
  if p = 0 then [o_ild (.iload_n 2) 2, o_int (.bipush 7) 7, o_imul, o_int (.iconst 3) 3, o_iadd, o_ist (.istore 4) 4, o_ald (.aload_n 0) 0, o_getf (.getfield 12) 1 0, o_getf (.getfield 112) 2 0, o_int (.iconst 1) 1, o_lda .iaload [0, 20], o_ist (.istore 5) 5, o_ald (.aload_n 0) 0, o_cv (.invokevirtual 287) 1 kX1_ship_2 0 0, o_int (.iconst 0) 0, o_lda .iaload [0, 20], o_ist (.istore 6) 6, o_ald (.aload_n 0) 0, o_cv (.invokevirtual 287) 1 kX1_ship_2 0 0, o_int (.iconst 1) 1, o_lda .iaload [0, 20], o_ist (.istore 7) 7, o_ald (.aload_n 0) 0, o_cv (.invokevirtual 287) 1 kX1_ship_2 0 0, o_int (.iconst 2) 2, o_lda .iaload [0, 20], o_ist (.istore 8) 8, o_ald (.aload_n 0) 0, o_getf (.getfield 12) 1 0, o_getf (.getfield 102) 2 1, o_int (.iconst 0) 0, o_ald (.aload_n 0) 0, o_getf (.getfield 66) 1 21, o_int (.iconst 0) 0, o_int (.bipush 36) 36, o_acopy (.invokestatic 124), o_ald (.aload_n 0) 0, o_getf (.getfield 63) 1 20, o_int (.iconst 0) 0, o_int (.iconst 0) 0, o_sta .iastore [0], o_int (.iconst 0) 0, o_ist (.istore 9) 9, o_fall 71] else
  if p = 71 then [o_ild (.iload 9) 9, o_ild (.iload_n 3) 3, o_icmpge 287 361, o_ald (.aload_n 0) 0, o_getf (.getfield 63) 1 20, o_int (.iconst 0) 0, o_lda .iaload [0, 20], o_ifne 278 361, o_ald (.aload_n 0) 0, o_getf (.getfield 12) 1 0, o_getf (.getfield 112) 2 0, o_int (.iconst 0) 0, o_lda .iaload [0, 20], o_ild (.iload 9) 9, o_iadd, o_ist (.istore 10) 10, o_ald (.aload_n 0) 0, o_ald (.aload_n 1) 1, o_ild (.iload 6) 6, o_ild (.iload 7) 7, o_ild (.iload 8) 8, o_ild (.iload 5) 5, o_ild (.iload 10) 10, o_cv (.invokevirtual 350) 1 kX1_orderBy 6 0, o_ist (.istore 11) 11, o_int (.iconst 0) 0, o_ist (.istore 12) 12, o_ild (.iload 4) 4, o_int (.bipush 10) 10, o_irem, o_ist (.istore 13) 13, o_fall 127] else
  if p = 127 then [o_ild (.iload 13) 13, o_ald (.aload_n 0) 0, o_getf (.getfield 12) 1 0, o_getf (.getfield 121) 2 9, o_ild (.iload 5) 5, o_lda .aaload [4, 5, 6, 7, 28, 29], o_ild (.iload 12) 12, o_lda .iaload [0, 20], o_icmplt 27 169, o_ild (.iload 13) 13, o_ald (.aload_n 0) 0, o_getf (.getfield 12) 1 0, o_getf (.getfield 121) 2 9, o_ild (.iload 5) 5, o_lda .aaload [4, 5, 6, 7, 28, 29], o_ild (.iload 12) 12, o_lda .iaload [0, 20], o_isub, o_ist (.istore 13) 13, o_inc 12 1, o_goto (-39) 127] else
  if p = 169 then [o_ild (.iload 4) 4, o_int (.sipush 173) 173, o_imul, o_int (.bipush 11) 11, o_iadd, o_int (.sipush 30103) 30103, o_irem, o_ist (.istore 4) 4, o_ild (.iload 7) 7, o_ald (.aload_n 0) 0, o_ild (.iload 11) 11, o_ild (.iload 6) 6, o_ild (.iload 7) 7, o_ild (.iload 8) 8, o_ald (.aload_n 0) 0, o_getf (.getfield 66) 1 21, o_ild (.iload 5) 5, o_ild (.iload 10) 10, o_cv (.invokevirtual 232) 1 kX1_costOf 7 0, o_isub, o_ist (.istore 7) 7, o_ild (.iload 11) 11, o_ild (.iload 8) 8, o_cs (.invokestatic 280) kX1_fires 2 0, o_ist (.istore 8) 8, o_ild (.iload 11) 11, o_int (.iconst 4) 4, o_icmpge 22 243, o_ald (.aload_n 0) 0, o_ild (.iload 6) 6, o_ild (.iload 11) 11, o_cs (.invokestatic 169) kX1_dx 1 0, o_ild (.iload 11) 11, o_cs (.invokestatic 173) kX1_dy 1 0, o_cv (.invokevirtual 165) 1 kX1_beside 3 0, o_goto 22 262] else
  if p = 243 then [o_ild (.iload 11) 11, o_int (.iconst 5) 5, o_icmpne 8 254, o_ild (.iload 6) 6, o_goto 11 262] else
  if p = 254 then [o_ald (.aload_n 0) 0, o_ild (.iload 6) 6, o_ild (.iload 12) 12, o_cv (.invokevirtual 246) 1 kX1_drifts 2 0, o_fall 262] else
  if p = 262 then [o_ist (.istore 6) 6, o_ald (.aload_n 0) 0, o_ald (.aload_n 0) 0, o_getf (.getfield 66) 1 21, o_ald (.aload_n 0) 0, o_getf (.getfield 69) 1 22, o_ild (.iload 12) 12, o_ild (.iload 10) 10, o_cv (.invokevirtual 242) 1 kX1_goes 4 0, o_ald (.aload_n 0) 0, o_getf (.getfield 66) 1 21, o_ast (.astore 13) 13, o_ald (.aload_n 0) 0, o_ald (.aload_n 0) 0, o_getf (.getfield 69) 1 22, o_putf (.putfield 66) 1 21 4, o_ald (.aload_n 0) 0, o_ald (.aload 13) 13, o_putf (.putfield 69) 1 22 4, o_ald (.aload_n 0) 0, o_getf (.getfield 63) 1 20, o_int (.iconst 0) 0, o_ild (.iload 11) 11, o_int (.iconst 4) 4, o_icmpge 20 328, o_ald (.aload_n 0) 0, o_getf (.getfield 12) 1 0, o_getf (.getfield 109) 2 6, o_ild (.iload 6) 6, o_lda .baload [1, 2, 22], o_ifeq 7 328, o_int (.iconst 1) 1, o_goto 25 350] else
  if p = 328 then [o_ald (.aload_n 0) 0, o_ald (.aload_n 0) 0, o_getf (.getfield 66) 1 21, o_ild (.iload 6) 6, o_ild (.iload 12) 12, o_ild (.iload 10) 10, o_cv (.invokevirtual 249) 1 kX1_nips 4 0, o_ifeq 7 349, o_int (.iconst 2) 2, o_goto 4 350] else
  if p = 349 then [o_int (.iconst 0) 0, o_fall 350] else
  if p = 350 then [o_sta .iastore [0], o_ild (.iload 12) 12, o_ist (.istore 5) 5, o_inc 9 1, o_goto (-287) 71] else
  if p = 361 then [o_ald (.aload_n 0) 0, o_getf (.getfield 63) 1 20, o_int (.iconst 1) 1, o_ild (.iload 9) 9, o_sta .iastore [0], o_ald (.aload_n 0) 0, o_getf (.getfield 63) 1 20, o_int (.iconst 2) 2, o_ild (.iload 6) 6, o_sta .iastore [0], o_ald (.aload_n 0) 0, o_getf (.getfield 63) 1 20, o_int (.iconst 3) 3, o_ild (.iload 7) 7, o_sta .iastore [0], o_vret] else
  []
def mX1_orderBy : Nat → List tp_Op := fun p => 
  if p = 0 then [o_int (.iconst 0) 0, o_ist (.istore 7) 7, o_fall 3] else
  if p = 3 then [o_ild (.iload 7) 7, o_ald (.aload_n 1) 1, o_getf (.getfield 354) 5 3, o_cv (.invokevirtual 357) 15 kJ4_size 0 0, o_icmpge 101 113, o_ald (.aload_n 1) 1, o_getf (.getfield 354) 5 3, o_ild (.iload 7) 7, o_cv (.invokevirtual 361) 15 kJ4_get 1 0, o_cast (.checkcast 365) [14], o_ast (.astore 8) 8, o_ald (.aload_n 0) 0, o_ald (.aload_n 0) 0, o_getf (.getfield 66) 1 21, o_ild (.iload_n 2) 2, o_ild (.iload 5) 5, o_ild (.iload 6) 6, o_cv (.invokevirtual 191) 1 kX1_names 4 0, o_ald (.aload_n 0) 0, o_getf (.getfield 30) 1 9, o_int (.bipush 9) 9, o_ild (.iload_n 3) 3, o_sta .iastore [0], o_ald (.aload_n 0) 0, o_getf (.getfield 30) 1 9, o_int (.bipush 10) 10, o_ild (.iload 4) 4, o_sta .iastore [0], o_ald (.aload 8) 8, o_cv (.invokevirtual 367) 14 kX14_when 0 0, o_ald (.aload_n 0) 0, o_getf (.getfield 30) 1 9, o_ci (.invokeinterface 371 2) [(7, kX7_is), (12, kX12_is), (13, kX13_is)] 1 0, o_ifeq 34 107, o_ald (.aload_n 0) 0, o_ald (.aload 8) 8, o_cv (.invokevirtual 377) 14 kX14_order 0 0, o_ild (.iload_n 2) 2, o_ild (.iload_n 3) 3, o_ild (.iload 4) 4, o_ald (.aload_n 0) 0, o_getf (.getfield 66) 1 21, o_ild (.iload 5) 5, o_ild (.iload 6) 6, o_cv (.invokevirtual 232) 1 kX1_costOf 7 0, o_int (.iconst (-1)) (-1), o_icmpeq 9 107, o_ald (.aload 8) 8, o_cv (.invokevirtual 377) 14 kX14_order 0 0, o_iret 0] else
  if p = 107 then [o_inc 7 1, o_goto (-107) 3] else
  if p = 113 then [o_ald (.aload_n 0) 0, o_int (.iconst 4) 4, o_ild (.iload_n 2) 2, o_ild (.iload_n 3) 3, o_ild (.iload 4) 4, o_ald (.aload_n 0) 0, o_getf (.getfield 66) 1 21, o_ild (.iload 5) 5, o_ild (.iload 6) 6, o_cv (.invokevirtual 232) 1 kX1_costOf 7 0, o_int (.iconst (-1)) (-1), o_icmpeq 7 138, o_int (.iconst 4) 4, o_goto 5 140] else
  if p = 138 then [o_int (.bipush 6) 6, o_fall 140] else
  if p = 140 then [o_iret 0] else
  []
def mX1_runs_2 : Nat → List tp_Op := fun p => 
  if p = 0 then [o_ald (.aload_n 0) 0, o_ild (.iload_n 1) 1, o_ild (.iload_n 2) 2, o_ild (.iload 4) 4, o_cv (.invokevirtual 379) 1 kX1_isRun 3 0, o_ifeq 34 42, o_ild (.iload_n 3) 3, o_int (.iconst 1) 1, o_int (.bipush 40) 40, o_cs (.invokestatic 94) kX1_in 3 0, o_ifeq 24 42, o_ild (.iload_n 2) 2, o_ild (.iload_n 3) 3, o_iadd, o_int (.iconst 1) 1, o_isub, o_int (.sipush 9999) 9999, o_icmpgt 13 42, o_ild (.iload 5) 5, o_int (.iconst 0) 0, o_int (.iconst 2) 2, o_cs (.invokestatic 94) kX1_in 3 0, o_ifne 5 44, o_fall 42] else
  if p = 42 then [o_int (.iconst (-1)) (-1), o_iret 0] else
  if p = 44 then [o_int (.iconst 0) 0, o_ist (.istore 6) 6, o_int (.iconst 0) 0, o_ist (.istore 7) 7, o_fall 50] else
  if p = 50 then [o_ild (.iload 7) 7, o_ild (.iload_n 3) 3, o_icmpge 49 102, o_ald (.aload_n 0) 0, o_ald (.aload_n 0) 0, o_getf (.getfield 12) 1 0, o_getf (.getfield 143) 2 12, o_ild (.iload_n 1) 1, o_lda .aaload [4, 5, 6, 7, 28, 29], o_ild (.iload_n 2) 2, o_ild (.iload 7) 7, o_iadd, o_ild (.iload 4) 4, o_cv (.invokevirtual 382) 1 kX1_runs 3 0, o_ild (.iload 6) 6, o_ald (.aload_n 0) 0, o_getf (.getfield 63) 1 20, o_int (.iconst 0) 0, o_lda .iaload [0, 20], o_ild (.iload 5) 5, o_icmpne 7 92, o_int (.iconst 1) 1, o_goto 4 93] else
  if p = 92 then [o_int (.iconst 0) 0, o_fall 93] else
  if p = 93 then [o_iadd, o_ist (.istore 6) 6, o_inc 7 1, o_goto (-49) 50] else
  if p = 102 then [o_ild (.iload 6) 6, o_iret 0] else
  []
def mX1_image : Nat → List tp_Op := fun p => 
  if p = 0 then [o_ald (.aload_n 0) 0, o_getf (.getfield 16) 1 1, o_ald (.aload_n 0) 0, o_getf (.getfield 12) 1 0, o_cv (.invokevirtual 90) 2 kX2_be 1 0, o_ald (.aload_n 0) 0, o_getf (.getfield 12) 1 0, o_getf (.getfield 112) 2 0, o_int (.iconst 0) 0, o_lda .iaload [0, 20], o_iret 0] else
  []
def mX1_back : Nat → List tp_Op := fun p => 
  if p = 0 then [o_ald (.aload_n 0) 0, o_getf (.getfield 12) 1 0, o_ald (.aload_n 0) 0, o_getf (.getfield 16) 1 1, o_cv (.invokevirtual 90) 2 kX2_be 1 0, o_ald (.aload_n 0) 0, o_getf (.getfield 12) 1 0, o_getf (.getfield 112) 2 0, o_int (.iconst 0) 0, o_lda .iaload [0, 20], o_iret 0] else
  []
def mX1_about : Nat → List tp_Op := fun p => 
  if p = 0 then [o_ild (.iload_n 1) 1, o_sw (.tableswitch 171 0 11 #[63, 68, 73, 83, 93, 103, 113, 123, 133, 144, 155, 160]) [(0, 64), (1, 69), (2, 74), (3, 84), (4, 94), (5, 104), (6, 114), (7, 124), (8, 134), (9, 145), (10, 156), (11, 161)] 172] else
  if p = 64 then [o_ald (.aload_n 0) 0, o_getf (.getfield 81) 1 2, o_iret 0] else
  if p = 69 then [o_ald (.aload_n 0) 0, o_getf (.getfield 84) 1 3, o_iret 0] else
  if p = 74 then [o_ald (.aload_n 0) 0, o_getf (.getfield 12) 1 0, o_getf (.getfield 112) 2 0, o_int (.iconst 0) 0, o_lda .iaload [0, 20], o_iret 0] else
  if p = 84 then [o_ald (.aload_n 0) 0, o_getf (.getfield 12) 1 0, o_getf (.getfield 112) 2 0, o_int (.iconst 1) 1, o_lda .iaload [0, 20], o_iret 0] else
  if p = 94 then [o_ald (.aload_n 0) 0, o_getf (.getfield 12) 1 0, o_getf (.getfield 112) 2 0, o_int (.iconst 2) 2, o_lda .iaload [0, 20], o_iret 0] else
  if p = 104 then [o_ald (.aload_n 0) 0, o_getf (.getfield 12) 1 0, o_getf (.getfield 112) 2 0, o_int (.iconst 3) 3, o_lda .iaload [0, 20], o_iret 0] else
  if p = 114 then [o_ald (.aload_n 0) 0, o_getf (.getfield 12) 1 0, o_getf (.getfield 112) 2 0, o_int (.iconst 4) 4, o_lda .iaload [0, 20], o_iret 0] else
  if p = 124 then [o_ald (.aload_n 0) 0, o_getf (.getfield 12) 1 0, o_getf (.getfield 112) 2 0, o_int (.iconst 5) 5, o_lda .iaload [0, 20], o_iret 0] else
  if p = 134 then [o_ald (.aload_n 0) 0, o_getf (.getfield 12) 1 0, o_getf (.getfield 112) 2 0, o_int (.bipush 6) 6, o_lda .iaload [0, 20], o_iret 0] else
  if p = 145 then [o_ald (.aload_n 0) 0, o_getf (.getfield 12) 1 0, o_getf (.getfield 112) 2 0, o_int (.bipush 7) 7, o_lda .iaload [0, 20], o_iret 0] else
  if p = 156 then [o_ald (.aload_n 0) 0, o_getf (.getfield 136) 1 6, o_iret 0] else
  if p = 161 then [o_ald (.aload_n 0) 0, o_getf (.getfield 12) 1 0, o_getf (.getfield 112) 2 0, o_int (.bipush 8) 8, o_lda .iaload [0, 20], o_iret 0] else
  if p = 172 then [o_int (.bipush (-2)) (-2), o_iret 0] else
  []
def mX10_init : Nat → List tp_Op := fun p => 
  if p = 0 then [o_ald (.aload_n 0) 0, o_cp (.invokespecial 1) kJ11_init 0 0, o_ald (.aload_n 0) 0, o_ild (.iload_n 1) 1, o_putf (.putfield 7) 10 0 0, o_vret] else
  []
def mX10_of : Nat → List tp_Op := fun p => 
  if p = 0 then [o_ald (.aload_n 1) 1, o_ald (.aload_n 0) 0, o_getf (.getfield 7) 10 0, o_lda .iaload [0, 20], o_i2l, o_lret] else
  []
def mX11_init : Nat → List tp_Op := fun p => 
  if p = 0 then [o_ald (.aload_n 0) 0, o_cp (.invokespecial 1) kJ11_init 0 0, o_ald (.aload_n 0) 0, o_ald (.aload_n 1) 1, o_putf (.putfield 7) 11 0 4, o_vret] else
  []
def mX11_of : Nat → List tp_Op := fun p => 
  if p = 0 then [o_ald (.aload_n 0) 0, o_getf (.getfield 7) 11 0, o_ald (.aload_n 1) 1, o_ci (.invokeinterface 13 2) [(8, kX8_of), (9, kX9_of), (10, kX10_of), (11, kX11_of)] 1 0, o_lneg, o_lret] else
  []
def mX12_init : Nat → List tp_Op := fun p => 
  if p = 0 then [o_ald (.aload_n 0) 0, o_cp (.invokespecial 1) kJ11_init 0 0, o_ald (.aload_n 0) 0, o_ild (.iload_n 1) 1, o_putf (.putfield 7) 12 0 0, o_ald (.aload_n 0) 0, o_ald (.aload_n 2) 2, o_putf (.putfield 13) 12 1 4, o_ald (.aload_n 0) 0, o_ald (.aload_n 3) 3, o_putf (.putfield 17) 12 2 4, o_vret] else
  []
def mX12_is : Nat → List tp_Op := fun p => 
  if p = 0 then [o_ald (.aload_n 0) 0, o_getf (.getfield 13) 12 1, o_ald (.aload_n 1) 1, o_ci (.invokeinterface 20 2) [(8, kX8_of), (9, kX9_of), (10, kX10_of), (11, kX11_of)] 1 0, o_ald (.aload_n 0) 0, o_getf (.getfield 17) 12 2, o_ald (.aload_n 1) 1, o_ci (.invokeinterface 20 2) [(8, kX8_of), (9, kX9_of), (10, kX10_of), (11, kX11_of)] 1 0, o_lsub, o_lst (.lstore_n 2) 2, o_ald (.aload_n 0) 0, o_getf (.getfield 7) 12 0, o_sw (.lookupswitch 110 #[(35, 86), (60, 50), (61, 74), (62, 62), (303, 98)]) [(35, 112), (60, 76), (61, 100), (62, 88), (303, 124)] 136] else
  if p = 76 then [o_lld (.lload_n 2) 2, o_lng (.lconst 0) 0, o_lcmp, o_ifge 7 86, o_int (.iconst 1) 1, o_goto 4 87] else
  if p = 86 then [o_int (.iconst 0) 0, o_fall 87] else
  if p = 87 then [o_iret 1] else
  if p = 88 then [o_lld (.lload_n 2) 2, o_lng (.lconst 0) 0, o_lcmp, o_ifle 7 98, o_int (.iconst 1) 1, o_goto 4 99] else
  if p = 98 then [o_int (.iconst 0) 0, o_fall 99] else
  if p = 99 then [o_iret 1] else
  if p = 100 then [o_lld (.lload_n 2) 2, o_lng (.lconst 0) 0, o_lcmp, o_ifne 7 110, o_int (.iconst 1) 1, o_goto 4 111] else
  if p = 110 then [o_int (.iconst 0) 0, o_fall 111] else
  if p = 111 then [o_iret 1] else
  if p = 112 then [o_lld (.lload_n 2) 2, o_lng (.lconst 0) 0, o_lcmp, o_ifeq 7 122, o_int (.iconst 1) 1, o_goto 4 123] else
  if p = 122 then [o_int (.iconst 0) 0, o_fall 123] else
  if p = 123 then [o_iret 1] else
  if p = 124 then [o_lld (.lload_n 2) 2, o_lng (.lconst 0) 0, o_lcmp, o_ifgt 7 134, o_int (.iconst 1) 1, o_goto 4 135] else
  if p = 134 then [o_int (.iconst 0) 0, o_fall 135] else
  if p = 135 then [o_iret 1] else
  if p = 136 then [o_lld (.lload_n 2) 2, o_lng (.lconst 0) 0, o_lcmp, o_iflt 7 146, o_int (.iconst 1) 1, o_goto 4 147] else
  if p = 146 then [o_int (.iconst 0) 0, o_fall 147] else
  if p = 147 then [o_iret 1] else
  []
def mX13_init : Nat → List tp_Op := fun p => 
  if p = 0 then [o_ald (.aload_n 0) 0, o_cp (.invokespecial 1) kJ11_init 0 0, o_ald (.aload_n 0) 0, o_ild (.iload_n 1) 1, o_putf (.putfield 7) 13 0 1, o_ald (.aload_n 0) 0, o_ald (.aload_n 2) 2, o_putf (.putfield 13) 13 1 4, o_vret] else
  []
def mX13_is : Nat → List tp_Op := fun p => 
  if p = 0 then [o_int (.iconst 0) 0, o_ist (.istore_n 2) 2, o_int (.iconst 0) 0, o_ist (.istore_n 3) 3, o_fall 4] else
  if p = 4 then [o_ild (.iload_n 3) 3, o_ald (.aload_n 0) 0, o_getf (.getfield 13) 13 1, o_cv (.invokevirtual 17) 15 kJ4_size 0 0, o_icmpge 37 49, o_ild (.iload_n 2) 2, o_ald (.aload_n 0) 0, o_getf (.getfield 13) 13 1, o_ild (.iload_n 3) 3, o_cv (.invokevirtual 23) 15 kJ4_get 1 0, o_cast (.checkcast 27) [7, 12, 13], o_ald (.aload_n 1) 1, o_ci (.invokeinterface 29 2) [(7, kX7_is), (12, kX12_is), (13, kX13_is)] 1 0, o_ifeq 7 40, o_int (.iconst 1) 1, o_goto 4 41] else
  if p = 40 then [o_int (.iconst 0) 0, o_fall 41] else
  if p = 41 then [o_iadd, o_ist (.istore_n 2) 2, o_inc 3 1, o_goto (-42) 4] else
  if p = 49 then [o_ald (.aload_n 0) 0, o_getf (.getfield 7) 13 0, o_ifeq 22 75, o_ild (.iload_n 2) 2, o_ald (.aload_n 0) 0, o_getf (.getfield 13) 13 1, o_cv (.invokevirtual 17) 15 kJ4_size 0 0, o_icmpne 7 71, o_int (.iconst 1) 1, o_goto 16 84] else
  if p = 71 then [o_int (.iconst 0) 0, o_goto 12 84] else
  if p = 75 then [o_ild (.iload_n 2) 2, o_ifle 7 83, o_int (.iconst 1) 1, o_goto 4 84] else
  if p = 83 then [o_int (.iconst 0) 0, o_fall 84] else
  if p = 84 then [o_iret 1] else
  []
def mX14_init : Nat → List tp_Op := fun p => 
  if p = 0 then [o_ald (.aload_n 0) 0, o_cp (.invokespecial 1) kJ11_init 0 0, o_ald (.aload_n 0) 0, o_ild (.iload_n 1) 1, o_putf (.putfield 7) 14 0 0, o_ald (.aload_n 0) 0, o_ald (.aload_n 2) 2, o_putf (.putfield 13) 14 1 4, o_vret] else
  []
def mX14_when : Nat → List tp_Op := fun p => 
  if p = 0 then [o_ald (.aload_n 0) 0, o_getf (.getfield 13) 14 1, o_aret] else
  []
def mX14_order : Nat → List tp_Op := fun p => 
  if p = 0 then [o_ald (.aload_n 0) 0, o_getf (.getfield 7) 14 0, o_iret 0] else
  []
def mX2_init : Nat → List tp_Op := fun p => 
  if p = 0 then [o_ald (.aload_n 0) 0, o_objinit (.invokespecial 3), o_ald (.aload_n 0) 0, o_int (.bipush 9) 9, o_newa (.newarray .int) 0, o_putf (.putfield 9) 2 0 4, o_ald (.aload_n 0) 0, o_int (.bipush 36) 36, o_newa (.newarray .int) 0, o_putf (.putfield 15) 2 1 4, o_ald (.aload_n 0) 0, o_int (.iconst 4) 4, o_newa (.newarray .int) 0, o_dup, o_int (.iconst 0) 0, o_int (.iconst 1) 1, o_sta .iastore [0], o_dup, o_int (.iconst 1) 1, o_int (.iconst 2) 2, o_sta .iastore [0], o_dup, o_int (.iconst 2) 2, o_int (.iconst 0) 0, o_sta .iastore [0], o_dup, o_int (.iconst 3) 3, o_int (.iconst 3) 3, o_sta .iastore [0], o_putf (.putfield 18) 2 2 4, o_ald (.aload_n 0) 0, o_int (.bipush 12) 12, o_newa (.newarray .int) 0, o_putf (.putfield 21) 2 3 4, o_ald (.aload_n 0) 0, o_int (.bipush 12) 12, o_newa (.newarray .int) 0, o_putf (.putfield 24) 2 4 4, o_ald (.aload_n 0) 0, o_int (.bipush 6) 6, o_newa (.newarray .int) 0, o_putf (.putfield 27) 2 5 4, o_ald (.aload_n 0) 0, o_int (.bipush 36) 36, o_newa (.newarray .boolean) 1, o_putf (.putfield 30) 2 6 4, o_ald (.aload_n 0) 0, o_int (.bipush 36) 36, o_newa (.newarray .boolean) 1, o_putf (.putfield 34) 2 7 4, o_ald (.aload_n 0) 0, o_int (.iconst 4) 4, o_int (.iconst 2) 2, o_new2 (.multianewarray 37 2), o_putf (.putfield 39) 2 8 4, o_ald (.aload_n 0) 0, o_int (.iconst 4) 4, o_int (.iconst 4) 4, o_new2 (.multianewarray 37 2), o_putf (.putfield 42) 2 9 4, o_ald (.aload_n 0) 0, o_int (.iconst 2) 2, o_int (.iconst 4) 4, o_new2 (.multianewarray 37 2), o_putf (.putfield 45) 2 10 4, o_ald (.aload_n 0) 0, o_int (.bipush 30) 30, o_int (.iconst 2) 2, o_new2 (.multianewarray 37 2), o_putf (.putfield 48) 2 11 4, o_ald (.aload_n 0) 0, o_int (.iconst 4) 4, o_newa (.anewarray 51) 7, o_putf (.putfield 53) 2 12 4, o_ald (.aload_n 0) 0, o_getf (.getfield 9) 2 0, o_int (.iconst 3) 3, o_int (.iconst (-1)) (-1), o_sta .iastore [0], o_int (.iconst 0) 0, o_ist (.istore_n 1) 1, o_fall 141] else
  if p = 141 then [o_ild (.iload_n 1) 1, o_int (.iconst 4) 4, o_icmpge 19 162, o_ald (.aload_n 0) 0, o_getf (.getfield 42) 2 9, o_ild (.iload_n 1) 1, o_lda .aaload [4, 5, 6, 7, 28, 29], o_ild (.iload_n 1) 1, o_int (.bipush 10) 10, o_sta .iastore [0], o_inc 1 1, o_goto (-18) 141] else
  if p = 162 then [o_ald (.aload_n 0) 0, o_getf (.getfield 45) 2 10, o_int (.iconst 0) 0, o_lda .aaload [4, 5, 6, 7, 28, 29], o_int (.iconst 1) 1, o_int (.bipush 20) 20, o_sta .iastore [0], o_ald (.aload_n 0) 0, o_getf (.getfield 45) 2 10, o_int (.iconst 1) 1, o_lda .aaload [4, 5, 6, 7, 28, 29], o_int (.iconst 0) 0, o_int (.iconst (-1)) (-1), o_sta .iastore [0], o_ald (.aload_n 0) 0, o_getf (.getfield 24) 2 4, o_int (.iconst 4) 4, o_cs (.invokestatic 57) kJ0_fill 2 0, o_ald (.aload_n 0) 0, o_getf (.getfield 27) 2 5, o_int (.iconst 1) 1, o_cs (.invokestatic 57) kJ0_fill 2 0, o_vret] else
  []
def mX2_be : Nat → List tp_Op := fun p => 
  if p = 0 then [o_ald (.aload_n 1) 1, o_getf (.getfield 9) 2 0, o_ald (.aload_n 0) 0, o_getf (.getfield 9) 2 0, o_cs (.invokestatic 69) kX2_copy 2 0, o_ald (.aload_n 1) 1, o_getf (.getfield 15) 2 1, o_ald (.aload_n 0) 0, o_getf (.getfield 15) 2 1, o_cs (.invokestatic 69) kX2_copy 2 0, o_ald (.aload_n 1) 1, o_getf (.getfield 18) 2 2, o_ald (.aload_n 0) 0, o_getf (.getfield 18) 2 2, o_cs (.invokestatic 69) kX2_copy 2 0, o_ald (.aload_n 1) 1, o_getf (.getfield 21) 2 3, o_ald (.aload_n 0) 0, o_getf (.getfield 21) 2 3, o_cs (.invokestatic 69) kX2_copy 2 0, o_ald (.aload_n 1) 1, o_getf (.getfield 24) 2 4, o_ald (.aload_n 0) 0, o_getf (.getfield 24) 2 4, o_cs (.invokestatic 69) kX2_copy 2 0, o_ald (.aload_n 1) 1, o_getf (.getfield 27) 2 5, o_ald (.aload_n 0) 0, o_getf (.getfield 27) 2 5, o_cs (.invokestatic 69) kX2_copy 2 0, o_ald (.aload_n 1) 1, o_getf (.getfield 30) 2 6, o_int (.iconst 0) 0, o_ald (.aload_n 0) 0, o_getf (.getfield 30) 2 6, o_int (.iconst 0) 0, o_int (.bipush 36) 36, o_acopy (.invokestatic 63), o_ald (.aload_n 1) 1, o_getf (.getfield 34) 2 7, o_int (.iconst 0) 0, o_ald (.aload_n 0) 0, o_getf (.getfield 34) 2 7, o_int (.iconst 0) 0, o_int (.bipush 36) 36, o_acopy (.invokestatic 63), o_ald (.aload_n 1) 1, o_getf (.getfield 39) 2 8, o_ald (.aload_n 0) 0, o_getf (.getfield 39) 2 8, o_cs (.invokestatic 73) kX2_copy_2 2 0, o_ald (.aload_n 1) 1, o_getf (.getfield 42) 2 9, o_ald (.aload_n 0) 0, o_getf (.getfield 42) 2 9, o_cs (.invokestatic 73) kX2_copy_2 2 0, o_ald (.aload_n 1) 1, o_getf (.getfield 45) 2 10, o_ald (.aload_n 0) 0, o_getf (.getfield 45) 2 10, o_cs (.invokestatic 73) kX2_copy_2 2 0, o_ald (.aload_n 1) 1, o_getf (.getfield 48) 2 11, o_ald (.aload_n 0) 0, o_getf (.getfield 48) 2 11, o_cs (.invokestatic 73) kX2_copy_2 2 0, o_ald (.aload_n 1) 1, o_getf (.getfield 53) 2 12, o_int (.iconst 0) 0, o_ald (.aload_n 0) 0, o_getf (.getfield 53) 2 12, o_int (.iconst 0) 0, o_int (.iconst 4) 4, o_acopy (.invokestatic 63), o_vret] else
  []
def mX2_copy : Nat → List tp_Op := fun p => 
  if p = 0 then [o_ald (.aload_n 0) 0, o_int (.iconst 0) 0, o_ald (.aload_n 1) 1, o_int (.iconst 0) 0, o_ald (.aload_n 0) 0, o_alen, o_acopy (.invokestatic 63), o_vret] else
  []
def mX2_copy_2 : Nat → List tp_Op := fun p => 
  if p = 0 then [o_int (.iconst 0) 0, o_ist (.istore_n 2) 2, o_fall 2] else
  if p = 2 then [o_ild (.iload_n 2) 2, o_ald (.aload_n 0) 0, o_alen, o_icmpge 18 23, o_ald (.aload_n 0) 0, o_ild (.iload_n 2) 2, o_lda .aaload [4, 5, 6, 7, 28, 29], o_ald (.aload_n 1) 1, o_ild (.iload_n 2) 2, o_lda .aaload [4, 5, 6, 7, 28, 29], o_cs (.invokestatic 69) kX2_copy 2 0, o_inc 2 1, o_goto (-18) 2] else
  if p = 23 then [o_vret] else
  []
def mX3_init : Nat → List tp_Op := fun p => 
  if p = 0 then [o_ald (.aload_n 0) 0, o_objinit (.invokespecial 1), o_ald (.aload_n 0) 0, o_int (.sipush 280) 280, o_newa (.newarray .int) 0, o_putf (.putfield 7) 3 3 4, o_ald (.aload_n 0) 0, o_int (.sipush 280) 280, o_newa (.newarray .int) 0, o_putf (.putfield 13) 3 4 4, o_ald (.aload_n 0) 0, o_int (.sipush 3200) 3200, o_newa (.newarray .int) 0, o_putf (.putfield 16) 3 5 4, o_ald (.aload_n 0) 0, o_int (.sipush 300) 300, o_newa (.newarray .int) 0, o_putf (.putfield 19) 3 6 4, o_ald (.aload_n 0) 0, o_int (.iconst (-1)) (-1), o_putf (.putfield 22) 3 8 0, o_ald (.aload_n 0) 0, o_int (.iconst (-1)) (-1), o_putf (.putfield 26) 3 9 0, o_ald (.aload_n 0) 0, o_int (.sipush 160) 160, o_newa (.newarray .int) 0, o_putf (.putfield 29) 3 19 4, o_ald (.aload_n 0) 0, o_int (.bipush 11) 11, o_newa (.newarray .int) 0, o_putf (.putfield 32) 3 25 4, o_ald (.aload_n 0) 0, o_int (.sipush 330) 330, o_newa (.newarray .long) 3, o_putf (.putfield 35) 3 26 4, o_ald (.aload_n 0) 0, o_int (.sipush 330) 330, o_newa (.newarray .boolean) 1, o_putf (.putfield 39) 3 27 4, o_ald (.aload_n 0) 0, o_int (.sipush 720) 720, o_newa (.newarray .int) 0, o_putf (.putfield 43) 3 28 4, o_ald (.aload_n 0) 0, o_int (.sipush 468) 468, o_newa (.newarray .int) 0, o_putf (.putfield 46) 3 29 4, o_ald (.aload_n 0) 0, o_int (.sipush 468) 468, o_newa (.newarray .boolean) 1, o_putf (.putfield 49) 3 30 4, o_ald (.aload_n 0) 0, o_int (.ldc 52) 93600, o_newa (.newarray .int) 0, o_putf (.putfield 53) 3 31 4, o_ald (.aload_n 0) 0, o_int (.bipush 13) 13, o_newa (.newarray .int) 0, o_putf (.putfield 56) 3 33 4, o_ald (.aload_n 0) 0, o_int (.bipush 13) 13, o_newa (.newarray .int) 0, o_putf (.putfield 59) 3 34 4, o_ald (.aload_n 0) 0, o_int (.bipush 13) 13, o_newa (.newarray .int) 0, o_putf (.putfield 62) 3 35 4, o_ald (.aload_n 0) 0, o_int (.ldc 52) 93600, o_newa (.newarray .boolean) 1, o_putf (.putfield 65) 3 36 4, o_ald (.aload_n 0) 0, o_int (.bipush 36) 36, o_newa (.newarray .boolean) 1, o_putf (.putfield 68) 3 37 4, o_ald (.aload_n 0) 0, o_int (.bipush 36) 36, o_newa (.newarray .boolean) 1, o_putf (.putfield 71) 3 38 4, o_ald (.aload_n 0) 0, o_int (.bipush 13) 13, o_newa (.newarray .int) 0, o_putf (.putfield 74) 3 40 4, o_ald (.aload_n 0) 0, o_ild (.iload_n 1) 1, o_int (.iconst 3) 3, o_icmpge 7 186, o_int (.iconst 3) 3, o_goto 15 198] else
  if p = 186 then [o_ild (.iload_n 1) 1, o_int (.bipush 6) 6, o_icmple 8 197, o_int (.bipush 6) 6, o_goto 4 198] else
  if p = 197 then [o_ild (.iload_n 1) 1, o_fall 198] else
  if p = 198 then [o_putf (.putfield 77) 3 0 0, o_ald (.aload_n 0) 0, o_ild (.iload_n 2) 2, o_int (.iconst 3) 3, o_icmpge 7 211, o_int (.iconst 3) 3, o_goto 15 223] else
  if p = 211 then [o_ild (.iload_n 2) 2, o_int (.bipush 6) 6, o_icmple 8 222, o_int (.bipush 6) 6, o_goto 4 223] else
  if p = 222 then [o_ild (.iload_n 2) 2, o_fall 223] else
  if p = 223 then [o_putf (.putfield 80) 3 1 0, o_ald (.aload_n 0) 0, o_ald (.aload_n 0) 0, o_getf (.getfield 77) 3 0, o_ald (.aload_n 0) 0, o_getf (.getfield 80) 3 1, o_imul, o_putf (.putfield 83) 3 2 0, o_ald (.aload_n 0) 0, o_getf (.getfield 7) 3 3, o_int (.iconst 3) 3, o_int (.iconst (-1)) (-1), o_sta .iastore [0], o_ald (.aload_n 0) 0, o_getf (.getfield 7) 3 3, o_int (.bipush 9) 9, o_int (.iconst 1) 1, o_sta .iastore [0], o_ald (.aload_n 0) 0, o_getf (.getfield 7) 3 3, o_int (.bipush 10) 10, o_int (.iconst 2) 2, o_sta .iastore [0], o_ald (.aload_n 0) 0, o_getf (.getfield 7) 3 3, o_int (.bipush 11) 11, o_int (.iconst 3) 3, o_sta .iastore [0], o_ald (.aload_n 0) 0, o_getf (.getfield 7) 3 3, o_int (.bipush 21) 21, o_int (.bipush 20) 20, o_sta .iastore [0], o_ald (.aload_n 0) 0, o_getf (.getfield 7) 3 3, o_int (.bipush 24) 24, o_int (.iconst 1) 1, o_sta .iastore [0], o_ald (.aload_n 0) 0, o_getf (.getfield 7) 3 3, o_int (.bipush 26) 26, o_int (.bipush 20) 20, o_sta .iastore [0], o_int (.iconst 0) 0, o_ist (.istore_n 3) 3, o_fall 298] else
  if p = 298 then [o_ild (.iload_n 3) 3, o_int (.iconst 4) 4, o_icmpge 23 323, o_ald (.aload_n 0) 0, o_getf (.getfield 7) 3 3, o_int (.sipush 160) 160, o_int (.iconst 5) 5, o_ild (.iload_n 3) 3, o_imul, o_iadd, o_int (.bipush 10) 10, o_sta .iastore [0], o_inc 3 1, o_goto (-22) 298] else
  if p = 323 then [o_int (.iconst 0) 0, o_ist (.istore_n 3) 3, o_fall 325] else
  if p = 325 then [o_ild (.iload_n 3) 3, o_int (.bipush 12) 12, o_icmpge 20 348, o_ald (.aload_n 0) 0, o_getf (.getfield 7) 3 3, o_int (.sipush 195) 195, o_ild (.iload_n 3) 3, o_iadd, o_int (.iconst 4) 4, o_sta .iastore [0], o_inc 3 1, o_goto (-20) 325] else
  if p = 348 then [o_int (.iconst 0) 0, o_ist (.istore_n 3) 3, o_fall 350] else
  if p = 350 then [o_ild (.iload_n 3) 3, o_int (.bipush 6) 6, o_icmpge 20 373, o_ald (.aload_n 0) 0, o_getf (.getfield 7) 3 3, o_int (.sipush 210) 210, o_ild (.iload_n 3) 3, o_iadd, o_int (.iconst 1) 1, o_sta .iastore [0], o_inc 3 1, o_goto (-20) 350] else
  if p = 373 then [o_ald (.aload_n 0) 0, o_getf (.getfield 7) 3 3, o_ald (.aload_n 0) 0, o_getf (.getfield 13) 3 4, o_cs (.invokestatic 86) kX3_copyRow 2 0, o_vret] else
  []
def mX3_copyRow : Nat → List tp_Op := fun p => 
  if p = 0 then [o_int (.iconst 0) 0, o_ist (.istore_n 2) 2, o_fall 2] else
  if p = 2 then [o_ild (.iload_n 2) 2, o_int (.sipush 280) 280, o_icmpge 15 21, o_ald (.aload_n 1) 1, o_ild (.iload_n 2) 2, o_ald (.aload_n 0) 0, o_ild (.iload_n 2) 2, o_lda .iaload [0, 20], o_sta .iastore [0], o_inc 2 1, o_goto (-16) 2] else
  if p = 21 then [o_vret] else
  []
def mX3_ice : Nat → List tp_Op := fun p => 
  if p = 0 then [o_ald (.aload_n 0) 0, o_ild (.iload_n 1) 1, o_cv (.invokevirtual 98) 3 kX3_isCell 1 0, o_ifeq 13 18, o_ild (.iload_n 2) 2, o_int (.iconst 0) 0, o_int (.bipush 99) 99, o_cs (.invokestatic 90) kX3_isIn 3 0, o_ifne 5 20, o_fall 18] else
  if p = 18 then [o_int (.iconst 0) 0, o_iret 1] else
  if p = 20 then [o_ald (.aload_n 0) 0, o_getf (.getfield 7) 3 3, o_int (.bipush 30) 30, o_ild (.iload_n 1) 1, o_iadd, o_ild (.iload_n 2) 2, o_sta .iastore [0], o_int (.iconst 1) 1, o_iret 1] else
  []
def mX3_isCell : Nat → List tp_Op := fun p => 
  if p = 0 then [o_ild (.iload_n 1) 1, o_int (.iconst 0) 0, o_ald (.aload_n 0) 0, o_getf (.getfield 83) 3 2, o_int (.iconst 1) 1, o_isub, o_cs (.invokestatic 90) kX3_isIn 3 0, o_iret 1] else
  []
def mX3_isIn : Nat → List tp_Op := fun p => 
  if p = 0 then [o_ild (.iload_n 0) 0, o_ild (.iload_n 1) 1, o_icmplt 12 14, o_ild (.iload_n 0) 0, o_ild (.iload_n 2) 2, o_icmpgt 7 14, o_int (.iconst 1) 1, o_goto 4 15] else
  if p = 14 then [o_int (.iconst 0) 0, o_fall 15] else
  if p = 15 then [o_iret 1] else
  []
def mX3_iceAt : Nat → List tp_Op := fun p => 
  if p = 0 then [o_ald (.aload_n 0) 0, o_ild (.iload_n 1) 1, o_cv (.invokevirtual 98) 3 kX3_isCell 1 0, o_ifeq 15 20, o_ald (.aload_n 0) 0, o_getf (.getfield 7) 3 3, o_int (.bipush 30) 30, o_ild (.iload_n 1) 1, o_iadd, o_lda .iaload [0, 20], o_goto 4 21] else
  if p = 20 then [o_int (.iconst (-1)) (-1), o_fall 21] else
  if p = 21 then [o_iret 0] else
  []
def mX3_mark : Nat → List tp_Op := fun p => 
  if p = 0 then [o_ald (.aload_n 0) 0, o_ild (.iload_n 1) 1, o_cv (.invokevirtual 98) 3 kX3_isCell 1 0, o_ifne 5 10, o_int (.iconst 0) 0, o_iret 1] else
  if p = 10 then [o_ald (.aload_n 0) 0, o_getf (.getfield 7) 3 3, o_ild (.iload_n 2) 2, o_ifeq 8 23, o_int (.bipush 110) 110, o_goto 5 25] else
  if p = 23 then [o_int (.bipush 70) 70, o_fall 25] else
  if p = 25 then [o_ild (.iload_n 1) 1, o_iadd, o_ild (.iload_n 3) 3, o_ifeq 7 35, o_int (.iconst 1) 1, o_goto 4 36] else
  if p = 35 then [o_int (.iconst 0) 0, o_fall 36] else
  if p = 36 then [o_sta .iastore [0], o_int (.iconst 1) 1, o_iret 1] else
  []
def mX3_edge : Nat → List tp_Op := fun p => 
  if p = 0 then [o_ild (.iload_n 1) 1, o_int (.iconst 0) 0, o_int (.bipush 99) 99, o_cs (.invokestatic 90) kX3_isIn 3 0, o_ifne 5 12, o_int (.iconst 0) 0, o_iret 1] else
  if p = 12 then [o_ald (.aload_n 0) 0, o_getf (.getfield 7) 3 3, o_int (.bipush 8) 8, o_ild (.iload_n 1) 1, o_sta .iastore [0], o_int (.iconst 1) 1, o_iret 1] else
  []
def mX3_drift : Nat → List tp_Op := fun p => 
  if p = 0 then [o_ild (.iload_n 1) 1, o_cs (.invokestatic 102) kX3_isWind 1 0, o_ifeq 21 25, o_ild (.iload_n 2) 2, o_int (.iconst (-1)) (-1), o_int (.iconst 1) 1, o_cs (.invokestatic 90) kX3_isIn 3 0, o_ifeq 12 25, o_ild (.iload_n 3) 3, o_int (.iconst (-1)) (-1), o_int (.iconst 1) 1, o_cs (.invokestatic 90) kX3_isIn 3 0, o_ifne 5 27, o_fall 25] else
  if p = 25 then [o_int (.iconst 0) 0, o_iret 1] else
  if p = 27 then [o_ald (.aload_n 0) 0, o_getf (.getfield 7) 3 3, o_int (.sipush 150) 150, o_int (.iconst 2) 2, o_ild (.iload_n 1) 1, o_imul, o_iadd, o_ild (.iload_n 2) 2, o_sta .iastore [0], o_ald (.aload_n 0) 0, o_getf (.getfield 7) 3 3, o_int (.sipush 150) 150, o_int (.iconst 2) 2, o_ild (.iload_n 1) 1, o_imul, o_iadd, o_int (.iconst 1) 1, o_iadd, o_ild (.iload_n 3) 3, o_sta .iastore [0], o_int (.iconst 1) 1, o_iret 1] else
  []
def mX3_isWind : Nat → List tp_Op := fun p => 
  if p = 0 then [o_ild (.iload_n 0) 0, o_int (.iconst 0) 0, o_int (.iconst 3) 3, o_cs (.invokestatic 90) kX3_isIn 3 0, o_iret 1] else
  []
def mX3_chances : Nat → List tp_Op := fun p => 
  if p = 0 then [o_ild (.iload_n 1) 1, o_cs (.invokestatic 102) kX3_isWind 1 0, o_ifeq 59 63, o_ild (.iload_n 2) 2, o_int (.iconst 0) 0, o_int (.bipush 10) 10, o_cs (.invokestatic 90) kX3_isIn 3 0, o_ifeq 49 63, o_ild (.iload_n 3) 3, o_int (.iconst 0) 0, o_int (.bipush 10) 10, o_cs (.invokestatic 90) kX3_isIn 3 0, o_ifeq 39 63, o_ild (.iload 4) 4, o_int (.iconst 0) 0, o_int (.bipush 10) 10, o_cs (.invokestatic 90) kX3_isIn 3 0, o_ifeq 28 63, o_ild (.iload 5) 5, o_int (.iconst 0) 0, o_int (.bipush 10) 10, o_cs (.invokestatic 90) kX3_isIn 3 0, o_ifeq 17 63, o_ild (.iload_n 2) 2, o_ild (.iload_n 3) 3, o_iadd, o_ild (.iload 4) 4, o_iadd, o_ild (.iload 5) 5, o_iadd, o_int (.bipush 10) 10, o_icmpeq 5 65, o_fall 63] else
  if p = 63 then [o_int (.iconst 0) 0, o_iret 1] else
  if p = 65 then [o_ald (.aload_n 0) 0, o_getf (.getfield 7) 3 3, o_int (.sipush 160) 160, o_int (.iconst 4) 4, o_ild (.iload_n 1) 1, o_imul, o_iadd, o_ild (.iload_n 2) 2, o_sta .iastore [0], o_ald (.aload_n 0) 0, o_getf (.getfield 7) 3 3, o_int (.sipush 160) 160, o_int (.iconst 4) 4, o_ild (.iload_n 1) 1, o_imul, o_iadd, o_int (.iconst 1) 1, o_iadd, o_ild (.iload_n 3) 3, o_sta .iastore [0], o_ald (.aload_n 0) 0, o_getf (.getfield 7) 3 3, o_int (.sipush 160) 160, o_int (.iconst 4) 4, o_ild (.iload_n 1) 1, o_imul, o_iadd, o_int (.iconst 2) 2, o_iadd, o_ild (.iload 4) 4, o_sta .iastore [0], o_ald (.aload_n 0) 0, o_getf (.getfield 7) 3 3, o_int (.sipush 160) 160, o_int (.iconst 4) 4, o_ild (.iload_n 1) 1, o_imul, o_iadd, o_int (.iconst 3) 3, o_iadd, o_ild (.iload 5) 5, o_sta .iastore [0], o_int (.iconst 1) 1, o_iret 1] else
  []
def mX3_ship : Nat → List tp_Op := fun p => 
  if p = 0 then [o_ild (.iload_n 1) 1, o_cs (.invokestatic 105) kX3_isShip 1 0, o_ifeq 13 17, o_ild (.iload_n 3) 3, o_int (.iconst 0) 0, o_int (.bipush 99) 99, o_cs (.invokestatic 90) kX3_isIn 3 0, o_ifne 5 19, o_fall 17] else
  if p = 17 then [o_int (.iconst 0) 0, o_iret 1] else
  if p = 19 then [o_ild (.iload_n 2) 2, o_int (.iconst (-1)) (-1), o_icmpne 21 42, o_ild (.iload_n 1) 1, o_int (.iconst 1) 1, o_icmpne 16 42, o_ald (.aload_n 0) 0, o_getf (.getfield 7) 3 3, o_int (.iconst 1) 1, o_int (.iconst 4) 4, o_cs (.invokestatic 108) kX3_ofShip 2 0, o_int (.iconst 0) 0, o_sta .iastore [0], o_int (.iconst 1) 1, o_iret 1] else
  if p = 42 then [o_ald (.aload_n 0) 0, o_ild (.iload_n 2) 2, o_cv (.invokevirtual 98) 3 kX3_isCell 1 0, o_ifne 5 52, o_int (.iconst 0) 0, o_iret 1] else
  if p = 52 then [o_ald (.aload_n 0) 0, o_getf (.getfield 7) 3 3, o_ild (.iload_n 1) 1, o_int (.iconst 0) 0, o_cs (.invokestatic 108) kX3_ofShip 2 0, o_ild (.iload_n 2) 2, o_sta .iastore [0], o_ald (.aload_n 0) 0, o_getf (.getfield 7) 3 3, o_ild (.iload_n 1) 1, o_int (.iconst 1) 1, o_cs (.invokestatic 108) kX3_ofShip 2 0, o_ild (.iload_n 3) 3, o_sta .iastore [0], o_ald (.aload_n 0) 0, o_getf (.getfield 7) 3 3, o_ild (.iload_n 1) 1, o_int (.iconst 2) 2, o_cs (.invokestatic 108) kX3_ofShip 2 0, o_int (.iconst 0) 0, o_sta .iastore [0], o_ald (.aload_n 0) 0, o_getf (.getfield 7) 3 3, o_ild (.iload_n 1) 1, o_int (.iconst 3) 3, o_cs (.invokestatic 108) kX3_ofShip 2 0, o_int (.iconst 0) 0, o_sta .iastore [0], o_ald (.aload_n 0) 0, o_getf (.getfield 7) 3 3, o_ild (.iload_n 1) 1, o_int (.iconst 4) 4, o_cs (.invokestatic 108) kX3_ofShip 2 0, o_int (.iconst 1) 1, o_sta .iastore [0], o_int (.iconst 1) 1, o_iret 1] else
  []
def mX3_isShip : Nat → List tp_Op := fun p => 
  if p = 0 then [o_ild (.iload_n 0) 0, o_int (.iconst 0) 0, o_int (.iconst 1) 1, o_cs (.invokestatic 90) kX3_isIn 3 0, o_iret 1] else
  []
def mX3_ofShip : Nat → List tp_Op := fun p => 
  if p = 0 then [o_int (.bipush 20) 20, o_int (.iconst 5) 5, o_ild (.iload_n 0) 0, o_imul, o_iadd, o_ild (.iload_n 1) 1, o_iadd, o_iret 0] else
  []
def mX3_costs : Nat → List tp_Op := fun p => 
  if p = 0 then [o_ild (.iload_n 1) 1, o_int (.iconst 0) 0, o_int (.bipush 99) 99, o_cs (.invokestatic 90) kX3_isIn 3 0, o_ifeq 23 30, o_ild (.iload_n 2) 2, o_int (.iconst 0) 0, o_int (.bipush 99) 99, o_cs (.invokestatic 90) kX3_isIn 3 0, o_ifeq 13 30, o_ild (.iload_n 3) 3, o_int (.iconst 0) 0, o_int (.bipush 99) 99, o_cs (.invokestatic 90) kX3_isIn 3 0, o_ifne 5 32, o_fall 30] else
  if p = 30 then [o_int (.iconst 0) 0, o_iret 1] else
  if p = 32 then [o_ald (.aload_n 0) 0, o_getf (.getfield 7) 3 3, o_int (.bipush 9) 9, o_ild (.iload_n 1) 1, o_sta .iastore [0], o_ald (.aload_n 0) 0, o_getf (.getfield 7) 3 3, o_int (.bipush 10) 10, o_ild (.iload_n 2) 2, o_sta .iastore [0], o_ald (.aload_n 0) 0, o_getf (.getfield 7) 3 3, o_int (.bipush 11) 11, o_ild (.iload_n 3) 3, o_sta .iastore [0], o_int (.iconst 1) 1, o_iret 1] else
  []
def mX3_wind : Nat → List tp_Op := fun p => 
  if p = 0 then [o_ild (.iload_n 1) 1, o_cs (.invokestatic 102) kX3_isWind 1 0, o_ifne 5 9, o_int (.iconst 0) 0, o_iret 1] else
  if p = 9 then [o_ald (.aload_n 0) 0, o_getf (.getfield 7) 3 3, o_int (.iconst 1) 1, o_ild (.iload_n 1) 1, o_sta .iastore [0], o_int (.iconst 1) 1, o_iret 1] else
  []
def mX3_feed : Nat → List tp_Op := fun p => 
  if p = 0 then [o_ald (.aload_n 0) 0, o_getf (.getfield 112) 3 7, o_int (.bipush 20) 20, o_iadd, o_int (.sipush 300) 300, o_icmple 5 15, o_int (.iconst (-1)) (-1), o_iret 0] else
  if p = 15 then [o_ald (.aload_n 0) 0, o_ild (.iload_n 1) 1, o_cv (.invokevirtual 115) 3 kX3_four 1 0, o_ald (.aload_n 0) 0, o_ild (.iload_n 2) 2, o_cv (.invokevirtual 115) 3 kX3_four 1 0, o_ald (.aload_n 0) 0, o_ild (.iload_n 3) 3, o_cv (.invokevirtual 115) 3 kX3_four 1 0, o_ald (.aload_n 0) 0, o_ild (.iload 4) 4, o_cv (.invokevirtual 115) 3 kX3_four 1 0, o_ald (.aload_n 0) 0, o_ild (.iload 5) 5, o_cv (.invokevirtual 115) 3 kX3_four 1 0, o_ald (.aload_n 0) 0, o_getf (.getfield 112) 3 7, o_iret 0] else
  []
def mX3_four : Nat → List tp_Op := fun p => 
  if p = 0 then [o_int (.bipush 24) 24, o_ist (.istore_n 2) 2, o_fall 3] else
  if p = 3 then [o_ild (.iload_n 2) 2, o_iflt 35 39, o_ald (.aload_n 0) 0, o_getf (.getfield 19) 3 6, o_ald (.aload_n 0) 0, o_getf (.getfield 112) 3 7, o_ild (.iload_n 1) 1, o_ild (.iload_n 2) 2, o_ishr, o_int (.sipush 255) 255, o_iand, o_sta .iastore [0], o_ald (.aload_n 0) 0, o_dup, o_getf (.getfield 112) 3 7, o_int (.iconst 1) 1, o_iadd, o_putf (.putfield 112) 3 7 0, o_inc 2 (-8), o_goto (-33) 3] else
  if p = 39 then [o_vret] else
  []
def mX3_end : Nat → List tp_Op := fun p => 
  if p = 0 then [o_ild (.iload_n 1) 1, o_int (.iconst 0) 0, o_ald (.aload_n 0) 0, o_getf (.getfield 112) 3 7, o_cs (.invokestatic 90) kX3_isIn 3 0, o_ifne 5 14, o_int (.iconst (-1)) (-1), o_iret 0] else
  if p = 14 then [o_ald (.aload_n 0) 0, o_ild (.iload_n 1) 1, o_putf (.putfield 112) 3 7 0, o_ild (.iload_n 1) 1, o_iret 0] else
  []
def mX3_text : Nat → List tp_Op := fun p => 
  if p = 0 then [o_ald (.aload_n 0) 0, o_getf (.getfield 7) 3 3, o_int (.iconst 2) 2, o_lda .iaload [0, 20], o_int (.iconst 4) 4, o_icmpne 5 12, o_int (.iconst (-1)) (-1), o_iret 0] else
  if p = 12 then [o_ald (.aload_n 0) 0, o_ald (.aload_n 0) 0, o_cv (.invokevirtual 252) 3 kX3_readText 0 0, o_putf (.putfield 22) 3 8 0, o_ald (.aload_n 0) 0, o_ald (.aload_n 0) 0, o_getf (.getfield 22) 3 8, o_ifne 7 32, o_int (.iconst (-1)) (-1), o_goto 7 36] else
  if p = 32 then [o_ald (.aload_n 0) 0, o_getf (.getfield 126) 3 11, o_fall 36] else
  if p = 36 then [o_putf (.putfield 26) 3 9 0, o_ald (.aload_n 0) 0, o_int (.iconst 0) 0, o_putf (.putfield 112) 3 7 0, o_ald (.aload_n 0) 0, o_getf (.getfield 22) 3 8, o_ifeq 5 53, o_int (.iconst (-1)) (-1), o_iret 0] else
  if p = 53 then [o_ald (.aload_n 0) 0, o_getf (.getfield 7) 3 3, o_int (.iconst 2) 2, o_dup2, o_lda .iaload [0, 20], o_int (.iconst 1) 1, o_iadd, o_sta .iastore [0], o_ald (.aload_n 0) 0, o_getf (.getfield 7) 3 3, o_int (.iconst 2) 2, o_lda .iaload [0, 20], o_int (.iconst 1) 1, o_isub, o_iret 0] else
  []
def mX3_readText : Nat → List tp_Op := fun p => 
  if p = 0 then [o_ald (.aload_n 0) 0, o_int (.sipush 800) 800, o_ald (.aload_n 0) 0, o_getf (.getfield 7) 3 3, o_int (.iconst 2) 2, o_lda .iaload [0, 20], o_imul, o_putf (.putfield 154) 3 15 0, o_ald (.aload_n 0) 0, o_getf (.getfield 16) 3 5, o_ald (.aload_n 0) 0, o_getf (.getfield 154) 3 15, o_int (.iconst 0) 0, o_sta .iastore [0], o_ald (.aload_n 0) 0, o_int (.iconst 0) 0, o_putf (.putfield 157) 3 17 0, o_ald (.aload_n 0) 0, o_int (.iconst 0) 0, o_putf (.putfield 167) 3 21 0, o_ald (.aload_n 0) 0, o_int (.iconst 0) 0, o_putf (.putfield 240) 3 24 0, o_ald (.aload_n 0) 0, o_int (.iconst 0) 0, o_putf (.putfield 119) 3 10 0, o_ald (.aload_n 0) 0, o_cv (.invokevirtual 189) 3 kX3_nextToken 0 0, o_fall 48] else
  if p = 48 then [o_ald (.aload_n 0) 0, o_getf (.getfield 129) 3 12, o_ifeq 17 69, o_ald (.aload_n 0) 0, o_cv (.invokevirtual 249) 3 kX3_clause 0 0, o_ist (.istore_n 1) 1, o_ild (.iload_n 1) 1, o_ifeq 5 66, o_ild (.iload_n 1) 1, o_iret 0] else
  if p = 66 then [o_goto (-18) 48] else
  if p = 69 then [o_int (.iconst 0) 0, o_iret 0] else
  []
def mX3_nextToken : Nat → List tp_Op := fun p => 
  if p = 0 then [o_ald (.aload_n 0) 0, o_ald (.aload_n 0) 0, o_getf (.getfield 119) 3 10, o_cv (.invokevirtual 122) 3 kX3_byteAt 1 0, o_int (.bipush 32) 32, o_icmpeq 16 26, o_ald (.aload_n 0) 0, o_ald (.aload_n 0) 0, o_getf (.getfield 119) 3 10, o_cv (.invokevirtual 122) 3 kX3_byteAt 1 0, o_int (.bipush 10) 10, o_icmpne 16 39, o_fall 26] else
  if p = 26 then [o_ald (.aload_n 0) 0, o_dup, o_getf (.getfield 119) 3 10, o_int (.iconst 1) 1, o_iadd, o_putf (.putfield 119) 3 10 0, o_goto (-36) 0] else
  if p = 39 then [o_ald (.aload_n 0) 0, o_ald (.aload_n 0) 0, o_getf (.getfield 119) 3 10, o_putf (.putfield 126) 3 11 0, o_ald (.aload_n 0) 0, o_ald (.aload_n 0) 0, o_getf (.getfield 119) 3 10, o_cv (.invokevirtual 122) 3 kX3_byteAt 1 0, o_ist (.istore_n 1) 1, o_ild (.iload_n 1) 1, o_ifge 11 68, o_ald (.aload_n 0) 0, o_int (.iconst 0) 0, o_putf (.putfield 129) 3 12 0, o_goto 325 390] else
  if p = 68 then [o_ild (.iload_n 1) 1, o_cs (.invokestatic 132) kX3_isDigit 1 0, o_ifeq 72 144, o_ald (.aload_n 0) 0, o_int (.iconst 1) 1, o_putf (.putfield 129) 3 12 0, o_ald (.aload_n 0) 0, o_int (.iconst 0) 0, o_putf (.putfield 135) 3 13 0, o_fall 85] else
  if p = 85 then [o_ald (.aload_n 0) 0, o_ald (.aload_n 0) 0, o_getf (.getfield 119) 3 10, o_cv (.invokevirtual 122) 3 kX3_byteAt 1 0, o_cs (.invokestatic 132) kX3_isDigit 1 0, o_ifeq 294 390, o_ald (.aload_n 0) 0, o_getf (.getfield 135) 3 13, o_int (.ldc 138) 100000, o_icmpge 26 131, o_ald (.aload_n 0) 0, o_int (.bipush 10) 10, o_ald (.aload_n 0) 0, o_getf (.getfield 135) 3 13, o_imul, o_ald (.aload_n 0) 0, o_ald (.aload_n 0) 0, o_getf (.getfield 119) 3 10, o_cv (.invokevirtual 122) 3 kX3_byteAt 1 0, o_iadd, o_int (.bipush 48) 48, o_isub, o_putf (.putfield 135) 3 13 0, o_fall 131] else
  if p = 131 then [o_ald (.aload_n 0) 0, o_dup, o_getf (.getfield 119) 3 10, o_int (.iconst 1) 1, o_iadd, o_putf (.putfield 119) 3 10 0, o_goto (-56) 85] else
  if p = 144 then [o_ild (.iload_n 1) 1, o_cs (.invokestatic 139) kX3_isLetter 1 0, o_ifeq 97 245, o_ald (.aload_n 0) 0, o_int (.iconst 2) 2, o_putf (.putfield 129) 3 12 0, o_ald (.aload_n 0) 0, o_lng (.lconst 0) 0, o_putf (.putfield 142) 3 14 3, o_fall 161] else
  if p = 161 then [o_ald (.aload_n 0) 0, o_ald (.aload_n 0) 0, o_getf (.getfield 119) 3 10, o_cv (.invokevirtual 122) 3 kX3_byteAt 1 0, o_cs (.invokestatic 139) kX3_isLetter 1 0, o_ifeq 51 223, o_ald (.aload_n 0) 0, o_getf (.getfield 119) 3 10, o_ald (.aload_n 0) 0, o_getf (.getfield 126) 3 11, o_isub, o_int (.bipush 7) 7, o_icmpge 24 210, o_ald (.aload_n 0) 0, o_ald (.aload_n 0) 0, o_getf (.getfield 142) 3 14, o_int (.bipush 8) 8, o_lshl, o_ald (.aload_n 0) 0, o_ald (.aload_n 0) 0, o_getf (.getfield 119) 3 10, o_cv (.invokevirtual 122) 3 kX3_byteAt 1 0, o_i2l, o_lor, o_putf (.putfield 142) 3 14 3, o_fall 210] else
  if p = 210 then [o_ald (.aload_n 0) 0, o_dup, o_getf (.getfield 119) 3 10, o_int (.iconst 1) 1, o_iadd, o_putf (.putfield 119) 3 10 0, o_goto (-59) 161] else
  if p = 223 then [o_ald (.aload_n 0) 0, o_getf (.getfield 119) 3 10, o_ald (.aload_n 0) 0, o_getf (.getfield 126) 3 11, o_isub, o_int (.bipush 7) 7, o_icmple 156 390, o_ald (.aload_n 0) 0, o_lng (.lconst 0) 0, o_putf (.putfield 142) 3 14 3, o_goto 148 390] else
  if p = 245 then [o_ald (.aload_n 0) 0, o_dup, o_getf (.getfield 119) 3 10, o_int (.iconst 1) 1, o_iadd, o_putf (.putfield 119) 3 10 0, o_ild (.iload_n 1) 1, o_int (.bipush 60) 60, o_icmpeq 63 321, o_ild (.iload_n 1) 1, o_int (.bipush 62) 62, o_icmpeq 57 321, o_ild (.iload_n 1) 1, o_int (.bipush 61) 61, o_icmpeq 51 321, o_ild (.iload_n 1) 1, o_int (.bipush 35) 35, o_icmpeq 45 321, o_ild (.iload_n 1) 1, o_int (.bipush 43) 43, o_icmpeq 39 321, o_ild (.iload_n 1) 1, o_int (.bipush 45) 45, o_icmpeq 33 321, o_ild (.iload_n 1) 1, o_int (.bipush 42) 42, o_icmpeq 27 321, o_ild (.iload_n 1) 1, o_int (.bipush 47) 47, o_icmpeq 21 321, o_ild (.iload_n 1) 1, o_int (.bipush 40) 40, o_icmpeq 15 321, o_ild (.iload_n 1) 1, o_int (.bipush 41) 41, o_icmpeq 9 321, o_ild (.iload_n 1) 1, o_int (.bipush 59) 59, o_icmpne 7 325, o_fall 321] else
  if p = 321 then [o_int (.iconst 1) 1, o_goto 4 326] else
  if p = 325 then [o_int (.iconst 0) 0, o_fall 326] else
  if p = 326 then [o_ist (.istore_n 2) 2, o_ald (.aload_n 0) 0, o_ild (.iload_n 2) 2, o_ifeq 7 336, o_ild (.iload_n 1) 1, o_goto 4 337] else
  if p = 336 then [o_int (.iconst 3) 3, o_fall 337] else
  if p = 337 then [o_putf (.putfield 129) 3 12 0, o_ild (.iload_n 1) 1, o_int (.bipush 60) 60, o_icmpeq 9 352, o_ild (.iload_n 1) 1, o_int (.bipush 62) 62, o_icmpne 41 390, o_fall 352] else
  if p = 352 then [o_ald (.aload_n 0) 0, o_ald (.aload_n 0) 0, o_getf (.getfield 119) 3 10, o_cv (.invokevirtual 122) 3 kX3_byteAt 1 0, o_int (.bipush 61) 61, o_icmpne 28 390, o_ald (.aload_n 0) 0, o_dup, o_getf (.getfield 119) 3 10, o_int (.iconst 1) 1, o_iadd, o_putf (.putfield 119) 3 10 0, o_ald (.aload_n 0) 0, o_ild (.iload_n 1) 1, o_int (.bipush 60) 60, o_icmpne 7 386, o_int (.iconst 4) 4, o_goto 4 387] else
  if p = 386 then [o_int (.iconst 5) 5, o_fall 387] else
  if p = 387 then [o_putf (.putfield 129) 3 12 0, o_fall 390] else
  if p = 390 then [o_vret] else
  []
def mX3_byteAt : Nat → List tp_Op := fun p => 
  if p = 0 then [o_ild (.iload_n 1) 1, o_ald (.aload_n 0) 0, o_getf (.getfield 112) 3 7, o_icmpge 12 17, o_ald (.aload_n 0) 0, o_getf (.getfield 19) 3 6, o_ild (.iload_n 1) 1, o_lda .iaload [0, 20], o_goto 4 18] else
  if p = 17 then [o_int (.iconst (-1)) (-1), o_fall 18] else
  if p = 18 then [o_iret 0] else
  []
def mX3_isDigit : Nat → List tp_Op := fun p => 
  if p = 0 then [o_ild (.iload_n 0) 0, o_int (.bipush 48) 48, o_int (.bipush 57) 57, o_cs (.invokestatic 90) kX3_isIn 3 0, o_iret 1] else
  []
def mX3_isLetter : Nat → List tp_Op := fun p => 
  if p = 0 then [o_ild (.iload_n 0) 0, o_int (.bipush 97) 97, o_int (.bipush 122) 122, o_cs (.invokestatic 90) kX3_isIn 3 0, o_ifne 14 22, o_ild (.iload_n 0) 0, o_int (.bipush 65) 65, o_int (.bipush 90) 90, o_cs (.invokestatic 90) kX3_isIn 3 0, o_ifeq 7 26, o_fall 22] else
  if p = 22 then [o_int (.iconst 1) 1, o_goto 4 27] else
  if p = 26 then [o_int (.iconst 0) 0, o_fall 27] else
  if p = 27 then [o_iret 1] else
  []
def mX3_clause : Nat → List tp_Op := fun p => 
  if p = 0 then [o_ald (.aload_n 0) 0, o_cv (.invokevirtual 237) 3 kX3_sortOf 0 0, o_ist (.istore_n 1) 1, o_ild (.iload_n 1) 1, o_ifne 5 11, o_int (.iconst 1) 1, o_iret 0] else
  if p = 11 then [o_ild (.iload_n 1) 1, o_int (.iconst 5) 5, o_icmplt 17 30, o_ald (.aload_n 0) 0, o_getf (.getfield 240) 3 24, o_ild (.iload_n 1) 1, o_ishr, o_int (.iconst 1) 1, o_iand, o_int (.iconst 1) 1, o_icmpne 5 30, o_int (.iconst 4) 4, o_iret 0] else
  if p = 30 then [o_ald (.aload_n 0) 0, o_getf (.getfield 16) 3 5, o_ald (.aload_n 0) 0, o_getf (.getfield 154) 3 15, o_lda .iaload [0, 20], o_ist (.istore_n 2) 2, o_ild (.iload_n 2) 2, o_int (.bipush 12) 12, o_icmpne 6 49, o_int (.bipush 6) 6, o_iret 0] else
  if p = 49 then [o_ild (.iload_n 1) 1, o_int (.iconst 5) 5, o_icmplt 15 66, o_ald (.aload_n 0) 0, o_dup, o_getf (.getfield 240) 3 24, o_int (.iconst 1) 1, o_ild (.iload_n 1) 1, o_ishl, o_ior, o_putf (.putfield 240) 3 24 0, o_fall 66] else
  if p = 66 then [o_ald (.aload_n 0) 0, o_ild (.iload_n 1) 1, o_putf (.putfield 186) 3 23 0, o_ald (.aload_n 0) 0, o_cv (.invokevirtual 189) 3 kX3_nextToken 0 0, o_ald (.aload_n 0) 0, o_getf (.getfield 154) 3 15, o_int (.iconst 1) 1, o_iadd, o_int (.iconst 4) 4, o_ild (.iload_n 2) 2, o_imul, o_iadd, o_ist (.istore_n 3) 3, o_ald (.aload_n 0) 0, o_getf (.getfield 16) 3 5, o_ild (.iload_n 3) 3, o_ild (.iload_n 1) 1, o_sta .iastore [0], o_ild (.iload_n 1) 1, o_int (.iconst 4) 4, o_icmpne 11 106, o_ald (.aload_n 0) 0, o_ild (.iload_n 3) 3, o_cv (.invokevirtual 243) 3 kX3_goesBy 1 0, o_goto 4 107] else
  if p = 106 then [o_int (.iconst 0) 0, o_fall 107] else
  if p = 107 then [o_ist (.istore 4) 4, o_ild (.iload 4) 4, o_ifeq 6 117, o_ild (.iload 4) 4, o_iret 0] else
  if p = 117 then [o_ald (.aload_n 0) 0, o_getf (.getfield 16) 3 5, o_ild (.iload_n 3) 3, o_int (.iconst 2) 2, o_iadd, o_ald (.aload_n 0) 0, o_getf (.getfield 157) 3 17, o_sta .iastore [0], o_ild (.iload_n 1) 1, o_int (.iconst 5) 5, o_icmplt 10 141, o_ald (.aload_n 0) 0, o_cv (.invokevirtual 224) 3 kX3_summed 0 0, o_goto 7 145] else
  if p = 141 then [o_ald (.aload_n 0) 0, o_cv (.invokevirtual 246) 3 kX3_either 0 0, o_fall 145] else
  if p = 145 then [o_ist (.istore 4) 4, o_ild (.iload 4) 4, o_ifeq 6 155, o_ild (.iload 4) 4, o_iret 0] else
  if p = 155 then [o_ald (.aload_n 0) 0, o_getf (.getfield 16) 3 5, o_ild (.iload_n 3) 3, o_int (.iconst 3) 3, o_iadd, o_ald (.aload_n 0) 0, o_getf (.getfield 157) 3 17, o_sta .iastore [0], o_ald (.aload_n 0) 0, o_getf (.getfield 16) 3 5, o_ald (.aload_n 0) 0, o_getf (.getfield 154) 3 15, o_dup2, o_lda .iaload [0, 20], o_int (.iconst 1) 1, o_iadd, o_sta .iastore [0], o_ald (.aload_n 0) 0, o_getf (.getfield 129) 3 12, o_int (.bipush 59) 59, o_icmpeq 5 191, o_int (.iconst 1) 1, o_iret 0] else
  if p = 191 then [o_ald (.aload_n 0) 0, o_cv (.invokevirtual 189) 3 kX3_nextToken 0 0, o_int (.iconst 0) 0, o_iret 0] else
  []
def mX3_sortOf : Nat → List tp_Op := fun p => 
  if p = 0 then [o_ald (.aload_n 0) 0, o_int (.bipush 109) 109, o_int (.bipush 97) 97, o_int (.bipush 121) 121, o_cs (.invokestatic 146) kX3_w3 3 0, o_cv (.invokevirtual 220) 3 kX3_isWord 1 0, o_ifeq 5 18, o_int (.iconst 1) 1, o_iret 0] else
  if p = 18 then [o_ald (.aload_n 0) 0, o_int (.bipush 110) 110, o_int (.bipush 105) 105, o_int (.bipush 112) 112, o_int (.bipush 115) 115, o_cs (.invokestatic 174) kX3_w4 4 0, o_cv (.invokevirtual 220) 3 kX3_isWord 1 0, o_ifeq 5 38, o_int (.iconst 2) 2, o_iret 0] else
  if p = 38 then [o_ald (.aload_n 0) 0, o_int (.bipush 119) 119, o_int (.bipush 97) 97, o_int (.bipush 108) 108, o_int (.bipush 107) 107, o_cs (.invokestatic 174) kX3_w4 4 0, o_cv (.invokevirtual 220) 3 kX3_isWord 1 0, o_ifeq 5 58, o_int (.iconst 3) 3, o_iret 0] else
  if p = 58 then [o_ald (.aload_n 0) 0, o_lng (.ldc2_w 235) 26479, o_cv (.invokevirtual 220) 3 kX3_isWord 1 0, o_ifeq 5 70, o_int (.iconst 4) 4, o_iret 0] else
  if p = 70 then [o_ald (.aload_n 0) 0, o_int (.bipush 99) 99, o_int (.bipush 111) 111, o_int (.bipush 115) 115, o_int (.bipush 116) 116, o_cs (.invokestatic 174) kX3_w4 4 0, o_cv (.invokevirtual 220) 3 kX3_isWord 1 0, o_ifeq 7 92, o_int (.iconst 5) 5, o_goto 25 114] else
  if p = 92 then [o_ald (.aload_n 0) 0, o_int (.bipush 105) 105, o_int (.bipush 99) 99, o_int (.bipush 101) 101, o_cs (.invokestatic 146) kX3_w3 3 0, o_cv (.invokevirtual 220) 3 kX3_isWord 1 0, o_ifeq 8 113, o_int (.bipush 6) 6, o_goto 4 114] else
  if p = 113 then [o_int (.iconst 0) 0, o_fall 114] else
  if p = 114 then [o_iret 0] else
  []
def mX3_w3 : Nat → List tp_Op := fun p => 
  if p = 0 then [o_ild (.iload_n 0) 0, o_i2l, o_int (.bipush 8) 8, o_lshl, o_ild (.iload_n 1) 1, o_i2l, o_lor, o_int (.bipush 8) 8, o_lshl, o_ild (.iload_n 2) 2, o_i2l, o_lor, o_lret] else
  []
def mX3_isWord : Nat → List tp_Op := fun p => 
  if p = 0 then [o_ald (.aload_n 0) 0, o_getf (.getfield 129) 3 12, o_int (.iconst 2) 2, o_icmpne 16 21, o_ald (.aload_n 0) 0, o_getf (.getfield 142) 3 14, o_lld (.lload_n 1) 1, o_lcmp, o_ifne 7 21, o_int (.iconst 1) 1, o_goto 4 22] else
  if p = 21 then [o_int (.iconst 0) 0, o_fall 22] else
  if p = 22 then [o_iret 1] else
  []
def mX3_w4 : Nat → List tp_Op := fun p => 
  if p = 0 then [o_ild (.iload_n 0) 0, o_ild (.iload_n 1) 1, o_ild (.iload_n 2) 2, o_cs (.invokestatic 146) kX3_w3 3 0, o_int (.bipush 8) 8, o_lshl, o_ild (.iload_n 3) 3, o_i2l, o_lor, o_lret] else
  []
def mX3_goesBy : Nat → List tp_Op := fun p => 
  if p = 0 then [o_ald (.aload_n 0) 0, o_getf (.getfield 129) 3 12, o_int (.iconst 1) 1, o_icmpeq 5 10, o_int (.iconst 1) 1, o_iret 0] else
  if p = 10 then [o_ald (.aload_n 0) 0, o_getf (.getfield 135) 3 13, o_int (.bipush 7) 7, o_icmple 5 21, o_int (.iconst 2) 2, o_iret 0] else
  if p = 21 then [o_ald (.aload_n 0) 0, o_getf (.getfield 16) 3 5, o_ild (.iload_n 1) 1, o_int (.iconst 1) 1, o_iadd, o_ald (.aload_n 0) 0, o_getf (.getfield 135) 3 13, o_sta .iastore [0], o_ald (.aload_n 0) 0, o_cv (.invokevirtual 189) 3 kX3_nextToken 0 0, o_ald (.aload_n 0) 0, o_int (.bipush 119) 119, o_int (.bipush 104) 104, o_int (.bipush 101) 101, o_int (.bipush 110) 110, o_cs (.invokestatic 174) kX3_w4 4 0, o_cv (.invokevirtual 220) 3 kX3_isWord 1 0, o_ifne 5 57, o_int (.iconst 1) 1, o_iret 0] else
  if p = 57 then [o_ald (.aload_n 0) 0, o_cv (.invokevirtual 189) 3 kX3_nextToken 0 0, o_int (.iconst 0) 0, o_iret 0] else
  []
def mX3_summed : Nat → List tp_Op := fun p => 
  if p = 0 then [o_ald (.aload_n 0) 0, o_int (.iconst 0) 0, o_putf (.putfield 160) 3 20 0, o_ald (.aload_n 0) 0, o_int (.iconst 0) 0, o_putf (.putfield 163) 3 22 1, o_fall 10] else
  if p = 10 then [o_ald (.aload_n 0) 0, o_getf (.getfield 163) 3 22, o_ifeq 10 24, o_ald (.aload_n 0) 0, o_cv (.invokevirtual 211) 3 kX3_goesOn 0 0, o_ifeq 31 52, o_fall 24] else
  if p = 24 then [o_ald (.aload_n 0) 0, o_getf (.getfield 163) 3 22, o_ifeq 10 38, o_ald (.aload_n 0) 0, o_cv (.invokevirtual 214) 3 kX3_behindOne 0 0, o_goto 7 42] else
  if p = 38 then [o_ald (.aload_n 0) 0, o_cv (.invokevirtual 217) 3 kX3_beginOne 0 0, o_fall 42] else
  if p = 42 then [o_ist (.istore_n 1) 1, o_ild (.iload_n 1) 1, o_ifeq 5 49, o_ild (.iload_n 1) 1, o_iret 0] else
  if p = 49 then [o_goto (-39) 10] else
  if p = 52 then [o_ald (.aload_n 0) 0, o_int (.iconst 3) 3, o_cv (.invokevirtual 208) 3 kX3_settle 1 0, o_ald (.aload_n 0) 0, o_getf (.getfield 160) 3 20, o_ifle 7 68, o_int (.iconst 1) 1, o_goto 4 69] else
  if p = 68 then [o_int (.iconst 0) 0, o_fall 69] else
  if p = 69 then [o_iret 0] else
  []
def mX3_goesOn : Nat → List tp_Op := fun p => 
  if p = 0 then [o_ald (.aload_n 0) 0, o_getf (.getfield 129) 3 12, o_int (.bipush 43) 43, o_icmpeq 46 52, o_ald (.aload_n 0) 0, o_getf (.getfield 129) 3 12, o_int (.bipush 45) 45, o_icmpeq 37 52, o_ald (.aload_n 0) 0, o_getf (.getfield 129) 3 12, o_int (.bipush 42) 42, o_icmpeq 28 52, o_ald (.aload_n 0) 0, o_getf (.getfield 129) 3 12, o_int (.bipush 47) 47, o_icmpeq 19 52, o_ald (.aload_n 0) 0, o_getf (.getfield 129) 3 12, o_int (.bipush 41) 41, o_icmpne 14 56, o_ald (.aload_n 0) 0, o_cv (.invokevirtual 204) 3 kX3_hasParen 0 0, o_ifeq 7 56, o_fall 52] else
  if p = 52 then [o_int (.iconst 1) 1, o_goto 4 57] else
  if p = 56 then [o_int (.iconst 0) 0, o_fall 57] else
  if p = 57 then [o_iret 1] else
  []
def mX3_hasParen : Nat → List tp_Op := fun p => 
  if p = 0 then [o_int (.iconst 0) 0, o_ist (.istore_n 1) 1, o_fall 2] else
  if p = 2 then [o_ild (.iload_n 1) 1, o_ald (.aload_n 0) 0, o_getf (.getfield 160) 3 20, o_icmpge 22 29, o_ald (.aload_n 0) 0, o_getf (.getfield 29) 3 19, o_ild (.iload_n 1) 1, o_lda .iaload [0, 20], o_int (.bipush 40) 40, o_icmpne 5 23, o_int (.iconst 1) 1, o_iret 1] else
  if p = 23 then [o_inc 1 1, o_goto (-24) 2] else
  if p = 29 then [o_int (.iconst 0) 0, o_iret 1] else
  []
def mX3_behindOne : Nat → List tp_Op := fun p => 
  if p = 0 then [o_ald (.aload_n 0) 0, o_getf (.getfield 129) 3 12, o_ist (.istore_n 1) 1, o_ild (.iload_n 1) 1, o_int (.bipush 43) 43, o_icmpeq 9 17, o_ild (.iload_n 1) 1, o_int (.bipush 45) 45, o_icmpne 31 45, o_fall 17] else
  if p = 17 then [o_ald (.aload_n 0) 0, o_int (.iconst 3) 3, o_cv (.invokevirtual 208) 3 kX3_settle 1 0, o_ald (.aload_n 0) 0, o_ild (.iload_n 1) 1, o_int (.bipush 43) 43, o_icmpne 7 33, o_int (.iconst 3) 3, o_goto 4 34] else
  if p = 33 then [o_int (.iconst 4) 4, o_fall 34] else
  if p = 34 then [o_cv (.invokevirtual 202) 3 kX3_push 1 0, o_ald (.aload_n 0) 0, o_int (.iconst 0) 0, o_putf (.putfield 163) 3 22 1, o_goto 73 115] else
  if p = 45 then [o_ild (.iload_n 1) 1, o_int (.bipush 42) 42, o_icmpeq 9 57, o_ild (.iload_n 1) 1, o_int (.bipush 47) 47, o_icmpne 32 86, o_fall 57] else
  if p = 57 then [o_ald (.aload_n 0) 0, o_int (.iconst 5) 5, o_cv (.invokevirtual 208) 3 kX3_settle 1 0, o_ald (.aload_n 0) 0, o_ild (.iload_n 1) 1, o_int (.bipush 42) 42, o_icmpne 7 73, o_int (.iconst 5) 5, o_goto 5 75] else
  if p = 73 then [o_int (.bipush 6) 6, o_fall 75] else
  if p = 75 then [o_cv (.invokevirtual 202) 3 kX3_push 1 0, o_ald (.aload_n 0) 0, o_int (.iconst 0) 0, o_putf (.putfield 163) 3 22 1, o_goto 32 115] else
  if p = 86 then [o_ald (.aload_n 0) 0, o_int (.iconst 3) 3, o_cv (.invokevirtual 208) 3 kX3_settle 1 0, o_ald (.aload_n 0) 0, o_dup, o_getf (.getfield 160) 3 20, o_int (.iconst 1) 1, o_isub, o_putf (.putfield 160) 3 20 0, o_ald (.aload_n 0) 0, o_dup, o_getf (.getfield 167) 3 21, o_int (.iconst 1) 1, o_isub, o_putf (.putfield 167) 3 21 0, o_ald (.aload_n 0) 0, o_cv (.invokevirtual 192) 3 kX3_whole 0 0, o_fall 115] else
  if p = 115 then [o_ald (.aload_n 0) 0, o_cv (.invokevirtual 189) 3 kX3_nextToken 0 0, o_int (.iconst 0) 0, o_iret 0] else
  []
def mX3_settle : Nat → List tp_Op := fun p => 
  if p = 0 then [o_ald (.aload_n 0) 0, o_getf (.getfield 160) 3 20, o_ifle 61 65, o_ald (.aload_n 0) 0, o_getf (.getfield 29) 3 19, o_ald (.aload_n 0) 0, o_getf (.getfield 160) 3 20, o_int (.iconst 1) 1, o_isub, o_lda .iaload [0, 20], o_int (.bipush 40) 40, o_icmpge 45 65, o_ald (.aload_n 0) 0, o_getf (.getfield 29) 3 19, o_ald (.aload_n 0) 0, o_getf (.getfield 160) 3 20, o_int (.iconst 1) 1, o_isub, o_lda .iaload [0, 20], o_ild (.iload_n 1) 1, o_icmplt 30 65, o_ald (.aload_n 0) 0, o_dup, o_getf (.getfield 160) 3 20, o_int (.iconst 1) 1, o_isub, o_putf (.putfield 160) 3 20 0, o_ald (.aload_n 0) 0, o_ald (.aload_n 0) 0, o_getf (.getfield 29) 3 19, o_ald (.aload_n 0) 0, o_getf (.getfield 160) 3 20, o_lda .iaload [0, 20], o_int (.iconst 0) 0, o_cv (.invokevirtual 170) 3 kX3_emit 2 0, o_goto (-62) 0] else
  if p = 65 then [o_vret] else
  []
def mX3_emit : Nat → List tp_Op := fun p => 
  if p = 0 then [o_ald (.aload_n 0) 0, o_getf (.getfield 16) 3 5, o_ald (.aload_n 0) 0, o_getf (.getfield 154) 3 15, o_int (.bipush 60) 60, o_iadd, o_int (.iconst 2) 2, o_ald (.aload_n 0) 0, o_getf (.getfield 157) 3 17, o_imul, o_iadd, o_ild (.iload_n 1) 1, o_sta .iastore [0], o_ald (.aload_n 0) 0, o_getf (.getfield 16) 3 5, o_ald (.aload_n 0) 0, o_getf (.getfield 154) 3 15, o_int (.bipush 60) 60, o_iadd, o_int (.iconst 2) 2, o_ald (.aload_n 0) 0, o_getf (.getfield 157) 3 17, o_imul, o_iadd, o_int (.iconst 1) 1, o_iadd, o_ild (.iload_n 2) 2, o_sta .iastore [0], o_ald (.aload_n 0) 0, o_dup, o_getf (.getfield 157) 3 17, o_int (.iconst 1) 1, o_iadd, o_putf (.putfield 157) 3 17 0, o_vret] else
  []
def mX3_push : Nat → List tp_Op := fun p => 
  if p = 0 then [o_ald (.aload_n 0) 0, o_getf (.getfield 29) 3 19, o_ald (.aload_n 0) 0, o_getf (.getfield 160) 3 20, o_ild (.iload_n 1) 1, o_sta .iastore [0], o_ald (.aload_n 0) 0, o_dup, o_getf (.getfield 160) 3 20, o_int (.iconst 1) 1, o_iadd, o_putf (.putfield 160) 3 20 0, o_vret] else
  []
def mX3_whole : Nat → List tp_Op := fun p => 
  if p = 0 then [o_ald (.aload_n 0) 0, o_int (.iconst 1) 1, o_putf (.putfield 163) 3 22 1, o_fall 5] else
  if p = 5 then [o_ald (.aload_n 0) 0, o_getf (.getfield 160) 3 20, o_ifle 47 56, o_ald (.aload_n 0) 0, o_getf (.getfield 29) 3 19, o_ald (.aload_n 0) 0, o_getf (.getfield 160) 3 20, o_int (.iconst 1) 1, o_isub, o_lda .iaload [0, 20], o_int (.iconst 2) 2, o_icmpne 32 56, o_ald (.aload_n 0) 0, o_dup, o_getf (.getfield 160) 3 20, o_int (.iconst 1) 1, o_isub, o_putf (.putfield 160) 3 20 0, o_ald (.aload_n 0) 0, o_dup, o_getf (.getfield 167) 3 21, o_int (.iconst 1) 1, o_isub, o_putf (.putfield 167) 3 21 0, o_ald (.aload_n 0) 0, o_int (.iconst 2) 2, o_int (.iconst 0) 0, o_cv (.invokevirtual 170) 3 kX3_emit 2 0, o_goto (-48) 5] else
  if p = 56 then [o_vret] else
  []
def mX3_beginOne : Nat → List tp_Op := fun p => 
  if p = 0 then [o_ald (.aload_n 0) 0, o_getf (.getfield 129) 3 12, o_int (.iconst 1) 1, o_icmpne 34 39, o_ald (.aload_n 0) 0, o_getf (.getfield 135) 3 13, o_int (.sipush 999) 999, o_icmple 5 20, o_int (.iconst 2) 2, o_iret 0] else
  if p = 20 then [o_ald (.aload_n 0) 0, o_int (.iconst 0) 0, o_ald (.aload_n 0) 0, o_getf (.getfield 135) 3 13, o_cv (.invokevirtual 170) 3 kX3_emit 2 0, o_ald (.aload_n 0) 0, o_cv (.invokevirtual 189) 3 kX3_nextToken 0 0, o_ald (.aload_n 0) 0, o_cv (.invokevirtual 192) 3 kX3_whole 0 0, o_int (.iconst 0) 0, o_iret 0] else
  if p = 39 then [o_ald (.aload_n 0) 0, o_cv (.invokevirtual 195) 3 kX3_nameOf 0 0, o_iflt 35 78, o_ald (.aload_n 0) 0, o_ald (.aload_n 0) 0, o_cv (.invokevirtual 195) 3 kX3_nameOf 0 0, o_cv (.invokevirtual 199) 3 kX3_isBarred 1 0, o_ifeq 5 59, o_int (.iconst 5) 5, o_iret 0] else
  if p = 59 then [o_ald (.aload_n 0) 0, o_int (.iconst 1) 1, o_ald (.aload_n 0) 0, o_cv (.invokevirtual 195) 3 kX3_nameOf 0 0, o_cv (.invokevirtual 170) 3 kX3_emit 2 0, o_ald (.aload_n 0) 0, o_cv (.invokevirtual 189) 3 kX3_nextToken 0 0, o_ald (.aload_n 0) 0, o_cv (.invokevirtual 192) 3 kX3_whole 0 0, o_int (.iconst 0) 0, o_iret 0] else
  if p = 78 then [o_ald (.aload_n 0) 0, o_getf (.getfield 129) 3 12, o_int (.bipush 40) 40, o_icmpne 8 92, o_int (.bipush 40) 40, o_goto 17 106] else
  if p = 92 then [o_ald (.aload_n 0) 0, o_getf (.getfield 129) 3 12, o_int (.bipush 45) 45, o_icmpne 7 105, o_int (.iconst 2) 2, o_goto 4 106] else
  if p = 105 then [o_int (.iconst 0) 0, o_fall 106] else
  if p = 106 then [o_ist (.istore_n 1) 1, o_ild (.iload_n 1) 1, o_ifne 5 113, o_int (.iconst 1) 1, o_iret 0] else
  if p = 113 then [o_ald (.aload_n 0) 0, o_getf (.getfield 167) 3 21, o_int (.bipush 8) 8, o_icmpne 5 124, o_int (.iconst 3) 3, o_iret 0] else
  if p = 124 then [o_ald (.aload_n 0) 0, o_dup, o_getf (.getfield 167) 3 21, o_int (.iconst 1) 1, o_iadd, o_putf (.putfield 167) 3 21 0, o_ald (.aload_n 0) 0, o_ild (.iload_n 1) 1, o_cv (.invokevirtual 202) 3 kX3_push 1 0, o_ald (.aload_n 0) 0, o_cv (.invokevirtual 189) 3 kX3_nextToken 0 0, o_int (.iconst 0) 0, o_iret 0] else
  []
def mX3_nameOf : Nat → List tp_Op := fun p => 
  if p = 0 then [o_ald (.aload_n 0) 0, o_getf (.getfield 129) 3 12, o_int (.iconst 2) 2, o_icmpeq 5 10, o_int (.iconst (-1)) (-1), o_iret 0] else
  if p = 10 then [o_ald (.aload_n 0) 0, o_getf (.getfield 142) 3 14, o_int (.bipush 116) 116, o_int (.bipush 104) 104, o_int (.bipush 105) 105, o_int (.bipush 99) 99, o_int (.bipush 107) 107, o_cs (.invokestatic 150) kX3_w5 5 0, o_lcmp, o_ifne 5 33, o_int (.iconst 0) 0, o_iret 0] else
  if p = 33 then [o_ald (.aload_n 0) 0, o_getf (.getfield 142) 3 14, o_int (.bipush 110) 110, o_int (.bipush 111) 111, o_int (.bipush 114) 114, o_int (.bipush 116) 116, o_int (.bipush 104) 104, o_cs (.invokestatic 150) kX3_w5 5 0, o_lcmp, o_ifne 5 56, o_int (.iconst 1) 1, o_iret 0] else
  if p = 56 then [o_ald (.aload_n 0) 0, o_getf (.getfield 142) 3 14, o_int (.bipush 101) 101, o_int (.bipush 97) 97, o_int (.bipush 115) 115, o_int (.bipush 116) 116, o_cs (.invokestatic 174) kX3_w4 4 0, o_lcmp, o_ifne 5 77, o_int (.iconst 2) 2, o_iret 0] else
  if p = 77 then [o_ald (.aload_n 0) 0, o_getf (.getfield 142) 3 14, o_int (.bipush 115) 115, o_int (.bipush 111) 111, o_int (.bipush 117) 117, o_int (.bipush 116) 116, o_int (.bipush 104) 104, o_cs (.invokestatic 150) kX3_w5 5 0, o_lcmp, o_ifne 5 100, o_int (.iconst 3) 3, o_iret 0] else
  if p = 100 then [o_ald (.aload_n 0) 0, o_getf (.getfield 142) 3 14, o_int (.bipush 119) 119, o_int (.bipush 101) 101, o_int (.bipush 115) 115, o_int (.bipush 116) 116, o_cs (.invokestatic 174) kX3_w4 4 0, o_lcmp, o_ifne 5 121, o_int (.iconst 4) 4, o_iret 0] else
  if p = 121 then [o_ald (.aload_n 0) 0, o_getf (.getfield 142) 3 14, o_lng (.ldc2_w 178) 120, o_lcmp, o_ifne 5 134, o_int (.iconst 5) 5, o_iret 0] else
  if p = 134 then [o_ald (.aload_n 0) 0, o_getf (.getfield 142) 3 14, o_lng (.ldc2_w 180) 121, o_lcmp, o_ifne 6 148, o_int (.bipush 6) 6, o_iret 0] else
  if p = 148 then [o_ald (.aload_n 0) 0, o_getf (.getfield 142) 3 14, o_int (.bipush 119) 119, o_int (.bipush 105) 105, o_int (.bipush 110) 110, o_int (.bipush 100) 100, o_cs (.invokestatic 174) kX3_w4 4 0, o_lcmp, o_ifne 6 170, o_int (.bipush 7) 7, o_iret 0] else
  if p = 170 then [o_ald (.aload_n 0) 0, o_getf (.getfield 142) 3 14, o_int (.bipush 119) 119, o_int (.bipush 97) 97, o_int (.bipush 116) 116, o_int (.bipush 99) 99, o_int (.bipush 104) 104, o_cs (.invokestatic 150) kX3_w5 5 0, o_lcmp, o_ifne 6 194, o_int (.bipush 8) 8, o_iret 0] else
  if p = 194 then [o_ald (.aload_n 0) 0, o_getf (.getfield 142) 3 14, o_int (.bipush 99) 99, o_int (.bipush 111) 111, o_int (.bipush 97) 97, o_int (.bipush 108) 108, o_cs (.invokestatic 174) kX3_w4 4 0, o_lcmp, o_ifne 8 218, o_int (.bipush 9) 9, o_goto 32 247] else
  if p = 218 then [o_ald (.aload_n 0) 0, o_getf (.getfield 142) 3 14, o_int (.bipush 98) 98, o_int (.bipush 97) 97, o_int (.bipush 110) 110, o_int (.bipush 107) 107, o_int (.bipush 101) 101, o_int (.bipush 100) 100, o_cs (.invokestatic 182) kX3_w6 6 0, o_lcmp, o_ifne 8 246, o_int (.bipush 10) 10, o_goto 4 247] else
  if p = 246 then [o_int (.iconst (-1)) (-1), o_fall 247] else
  if p = 247 then [o_iret 0] else
  []
def mX3_w5 : Nat → List tp_Op := fun p => 
  if p = 0 then [o_ild (.iload_n 0) 0, o_ild (.iload_n 1) 1, o_ild (.iload_n 2) 2, o_cs (.invokestatic 146) kX3_w3 3 0, o_int (.bipush 8) 8, o_lshl, o_ild (.iload_n 3) 3, o_i2l, o_lor, o_int (.bipush 8) 8, o_lshl, o_ild (.iload 4) 4, o_i2l, o_lor, o_lret] else
  []
def mX3_w6 : Nat → List tp_Op := fun p => 
  if p = 0 then [o_ild (.iload_n 0) 0, o_ild (.iload_n 1) 1, o_ild (.iload_n 2) 2, o_ild (.iload_n 3) 3, o_ild (.iload 4) 4, o_cs (.invokestatic 150) kX3_w5 5 0, o_int (.bipush 8) 8, o_lshl, o_ild (.iload 5) 5, o_i2l, o_lor, o_lret] else
  []
def mX3_isBarred : Nat → List tp_Op := fun p => 
  if p = 0 then [o_ild (.iload_n 1) 1, o_int (.bipush 8) 8, o_icmple 15 18, o_ald (.aload_n 0) 0, o_getf (.getfield 186) 3 23, o_int (.iconst 4) 4, o_icmpeq 7 18, o_int (.iconst 1) 1, o_goto 4 19] else
  if p = 18 then [o_int (.iconst 0) 0, o_fall 19] else
  if p = 19 then [o_iret 1] else
  []
def mX3_either : Nat → List tp_Op := fun p => 
  if p = 0 then [o_int (.iconst 0) 0, o_ist (.istore_n 1) 1, o_int (.iconst 0) 0, o_ist (.istore_n 2) 2, o_int (.iconst 1) 1, o_ist (.istore_n 3) 3, o_fall 6] else
  if p = 6 then [o_ild (.iload_n 3) 3, o_ifeq 112 119, o_ald (.aload_n 0) 0, o_cv (.invokevirtual 230) 3 kX3_asks 0 0, o_ist (.istore 4) 4, o_ild (.iload 4) 4, o_ifeq 6 24, o_ild (.iload 4) 4, o_iret 0] else
  if p = 24 then [o_ild (.iload_n 1) 1, o_ifeq 10 35, o_ald (.aload_n 0) 0, o_int (.bipush 21) 21, o_int (.iconst 0) 0, o_cv (.invokevirtual 170) 3 kX3_emit 2 0, o_fall 35] else
  if p = 35 then [o_ald (.aload_n 0) 0, o_int (.bipush 97) 97, o_int (.bipush 110) 110, o_int (.bipush 100) 100, o_cs (.invokestatic 146) kX3_w3 3 0, o_cv (.invokevirtual 220) 3 kX3_isWord 1 0, o_ist (.istore_n 1) 1, o_ald (.aload_n 0) 0, o_getf (.getfield 129) 3 12, o_int (.iconst 2) 2, o_icmpne 18 72, o_ald (.aload_n 0) 0, o_getf (.getfield 142) 3 14, o_lng (.ldc2_w 233) 28530, o_lcmp, o_ifne 7 72, o_int (.iconst 1) 1, o_goto 4 73] else
  if p = 72 then [o_int (.iconst 0) 0, o_fall 73] else
  if p = 73 then [o_ist (.istore 5) 5, o_ild (.iload_n 1) 1, o_ifne 17 93, o_ild (.iload_n 2) 2, o_ifeq 10 90, o_ald (.aload_n 0) 0, o_int (.bipush 22) 22, o_int (.iconst 0) 0, o_cv (.invokevirtual 170) 3 kX3_emit 2 0, o_fall 90] else
  if p = 90 then [o_ild (.iload 5) 5, o_ist (.istore_n 2) 2, o_fall 93] else
  if p = 93 then [o_ild (.iload_n 1) 1, o_ifne 8 102, o_ild (.iload 5) 5, o_ifeq 7 106, o_fall 102] else
  if p = 102 then [o_int (.iconst 1) 1, o_goto 4 107] else
  if p = 106 then [o_int (.iconst 0) 0, o_fall 107] else
  if p = 107 then [o_ist (.istore_n 3) 3, o_ild (.iload_n 3) 3, o_ifeq 7 116, o_ald (.aload_n 0) 0, o_cv (.invokevirtual 189) 3 kX3_nextToken 0 0, o_fall 116] else
  if p = 116 then [o_goto (-110) 6] else
  if p = 119 then [o_int (.iconst 0) 0, o_iret 0] else
  []
def mX3_asks : Nat → List tp_Op := fun p => 
  if p = 0 then [o_int (.iconst 0) 0, o_ist (.istore_n 1) 1, o_fall 2] else
  if p = 2 then [o_ald (.aload_n 0) 0, o_int (.bipush 110) 110, o_int (.bipush 111) 111, o_int (.bipush 116) 116, o_cs (.invokestatic 146) kX3_w3 3 0, o_cv (.invokevirtual 220) 3 kX3_isWord 1 0, o_ifeq 34 49, o_ald (.aload_n 0) 0, o_getf (.getfield 167) 3 21, o_int (.bipush 8) 8, o_icmpne 5 29, o_int (.iconst 3) 3, o_iret 0] else
  if p = 29 then [o_ald (.aload_n 0) 0, o_dup, o_getf (.getfield 167) 3 21, o_int (.iconst 1) 1, o_iadd, o_putf (.putfield 167) 3 21 0, o_inc 1 1, o_ald (.aload_n 0) 0, o_cv (.invokevirtual 189) 3 kX3_nextToken 0 0, o_goto (-44) 2] else
  if p = 49 then [o_ald (.aload_n 0) 0, o_cv (.invokevirtual 224) 3 kX3_summed 0 0, o_ist (.istore_n 2) 2, o_ild (.iload_n 2) 2, o_ifeq 5 60, o_ild (.iload_n 2) 2, o_iret 0] else
  if p = 60 then [o_ald (.aload_n 0) 0, o_cv (.invokevirtual 227) 3 kX3_compareOf 0 0, o_ist (.istore_n 3) 3, o_ild (.iload_n 3) 3, o_ifge 5 71, o_int (.iconst 1) 1, o_iret 0] else
  if p = 71 then [o_ald (.aload_n 0) 0, o_cv (.invokevirtual 189) 3 kX3_nextToken 0 0, o_ald (.aload_n 0) 0, o_cv (.invokevirtual 224) 3 kX3_summed 0 0, o_ist (.istore_n 2) 2, o_ild (.iload_n 2) 2, o_ifeq 5 86, o_ild (.iload_n 2) 2, o_iret 0] else
  if p = 86 then [o_ald (.aload_n 0) 0, o_ild (.iload_n 3) 3, o_int (.iconst 0) 0, o_cv (.invokevirtual 170) 3 kX3_emit 2 0, o_ald (.aload_n 0) 0, o_dup, o_getf (.getfield 167) 3 21, o_ild (.iload_n 1) 1, o_isub, o_putf (.putfield 167) 3 21 0, o_int (.iconst 0) 0, o_ist (.istore 4) 4, o_fall 105] else
  if p = 105 then [o_ild (.iload 4) 4, o_ild (.iload_n 1) 1, o_icmpge 16 124, o_ald (.aload_n 0) 0, o_int (.bipush 20) 20, o_int (.iconst 0) 0, o_cv (.invokevirtual 170) 3 kX3_emit 2 0, o_inc 4 1, o_goto (-16) 105] else
  if p = 124 then [o_int (.iconst 0) 0, o_iret 0] else
  []
def mX3_compareOf : Nat → List tp_Op := fun p => 
  if p = 0 then [o_ald (.aload_n 0) 0, o_getf (.getfield 129) 3 12, o_int (.bipush 60) 60, o_icmpne 8 14, o_int (.bipush 10) 10, o_goto 72 83] else
  if p = 14 then [o_ald (.aload_n 0) 0, o_getf (.getfield 129) 3 12, o_int (.iconst 4) 4, o_icmpne 8 27, o_int (.bipush 11) 11, o_goto 59 83] else
  if p = 27 then [o_ald (.aload_n 0) 0, o_getf (.getfield 129) 3 12, o_int (.bipush 62) 62, o_icmpne 8 41, o_int (.bipush 12) 12, o_goto 45 83] else
  if p = 41 then [o_ald (.aload_n 0) 0, o_getf (.getfield 129) 3 12, o_int (.iconst 5) 5, o_icmpne 8 54, o_int (.bipush 13) 13, o_goto 32 83] else
  if p = 54 then [o_ald (.aload_n 0) 0, o_getf (.getfield 129) 3 12, o_int (.bipush 61) 61, o_icmpne 8 68, o_int (.bipush 14) 14, o_goto 18 83] else
  if p = 68 then [o_ald (.aload_n 0) 0, o_getf (.getfield 129) 3 12, o_int (.bipush 35) 35, o_icmpne 8 82, o_int (.bipush 15) 15, o_goto 4 83] else
  if p = 82 then [o_int (.iconst (-1)) (-1), o_fall 83] else
  if p = 83 then [o_iret 0] else
  []
def mX3_fault : Nat → List tp_Op := fun p => 
  if p = 0 then [o_ild (.iload_n 1) 1, o_ifne 10 11, o_ald (.aload_n 0) 0, o_getf (.getfield 22) 3 8, o_goto 16 24] else
  if p = 11 then [o_ild (.iload_n 1) 1, o_int (.iconst 1) 1, o_icmpne 10 23, o_ald (.aload_n 0) 0, o_getf (.getfield 26) 3 9, o_goto 4 24] else
  if p = 23 then [o_int (.iconst (-1)) (-1), o_fall 24] else
  if p = 24 then [o_iret 0] else
  []
def mX3_by : Nat → List tp_Op := fun p => 
  if p = 0 then [o_ild (.iload_n 1) 1, o_int (.iconst (-1)) (-1), o_ald (.aload_n 0) 0, o_getf (.getfield 7) 3 3, o_int (.iconst 2) 2, o_lda .iaload [0, 20], o_int (.iconst 1) 1, o_isub, o_cs (.invokestatic 90) kX3_isIn 3 0, o_ifne 5 18, o_int (.iconst 0) 0, o_iret 1] else
  if p = 18 then [o_ald (.aload_n 0) 0, o_getf (.getfield 7) 3 3, o_int (.iconst 3) 3, o_ild (.iload_n 1) 1, o_sta .iastore [0], o_int (.iconst 1) 1, o_iret 1] else
  []
def mX3_can : Nat → List tp_Op := fun p => 
  if p = 0 then [o_ild (.iload_n 1) 1, o_cs (.invokestatic 105) kX3_isShip 1 0, o_ifeq 18 22, o_ild (.iload_n 2) 2, o_cs (.invokestatic 310) kX3_isOrder 1 0, o_ifeq 11 22, o_ald (.aload_n 0) 0, o_ild (.iload_n 1) 1, o_cv (.invokevirtual 313) 3 kX3_isFree 1 0, o_ifne 5 24, o_fall 22] else
  if p = 22 then [o_int (.iconst 0) 0, o_iret 1] else
  if p = 24 then [o_ald (.aload_n 0) 0, o_int (.sipush 504) 504, o_cv (.invokevirtual 316) 3 kX3_layNow 1 0, o_ald (.aload_n 0) 0, o_ild (.iload_n 1) 1, o_int (.sipush 504) 504, o_ild (.iload_n 2) 2, o_cv (.invokevirtual 319) 3 kX3_costOf 3 0, o_iflt 7 47, o_int (.iconst 1) 1, o_goto 4 48] else
  if p = 47 then [o_int (.iconst 0) 0, o_fall 48] else
  if p = 48 then [o_iret 1] else
  []
def mX3_isOrder : Nat → List tp_Op := fun p => 
  if p = 0 then [o_ild (.iload_n 0) 0, o_int (.iconst 0) 0, o_int (.bipush 7) 7, o_cs (.invokestatic 90) kX3_isIn 3 0, o_iret 1] else
  []
def mX3_isFree : Nat → List tp_Op := fun p => 
  if p = 0 then [o_ald (.aload_n 0) 0, o_getf (.getfield 7) 3 3, o_ild (.iload_n 1) 1, o_int (.iconst 4) 4, o_cs (.invokestatic 108) kX3_ofShip 2 0, o_lda .iaload [0, 20], o_int (.iconst 1) 1, o_icmpne 20 31, o_ald (.aload_n 0) 0, o_getf (.getfield 7) 3 3, o_ild (.iload_n 1) 1, o_int (.iconst 3) 3, o_cs (.invokestatic 108) kX3_ofShip 2 0, o_lda .iaload [0, 20], o_ifne 7 31, o_int (.iconst 1) 1, o_goto 4 32] else
  if p = 31 then [o_int (.iconst 0) 0, o_fall 32] else
  if p = 32 then [o_iret 1] else
  []
def mX3_layNow : Nat → List tp_Op := fun p => 
  if p = 0 then [o_int (.iconst 0) 0, o_ist (.istore_n 2) 2, o_fall 2] else
  if p = 2 then [o_ild (.iload_n 2) 2, o_ald (.aload_n 0) 0, o_getf (.getfield 83) 3 2, o_icmpge 26 33, o_ald (.aload_n 0) 0, o_getf (.getfield 43) 3 28, o_ild (.iload_n 1) 1, o_ild (.iload_n 2) 2, o_iadd, o_ald (.aload_n 0) 0, o_getf (.getfield 7) 3 3, o_int (.bipush 30) 30, o_ild (.iload_n 2) 2, o_iadd, o_lda .iaload [0, 20], o_sta .iastore [0], o_inc 2 1, o_goto (-28) 2] else
  if p = 33 then [o_vret] else
  []
def mX3_costOf : Nat → List tp_Op := fun p => 
  if p = 0 then [o_ald (.aload_n 0) 0, o_ild (.iload_n 2) 2, o_ald (.aload_n 0) 0, o_getf (.getfield 7) 3 3, o_ild (.iload_n 1) 1, o_int (.iconst 0) 0, o_cs (.invokestatic 108) kX3_ofShip 2 0, o_lda .iaload [0, 20], o_ald (.aload_n 0) 0, o_getf (.getfield 7) 3 3, o_ild (.iload_n 1) 1, o_int (.iconst 1) 1, o_cs (.invokestatic 108) kX3_ofShip 2 0, o_lda .iaload [0, 20], o_ald (.aload_n 0) 0, o_getf (.getfield 7) 3 3, o_ild (.iload_n 1) 1, o_int (.iconst 2) 2, o_cs (.invokestatic 108) kX3_ofShip 2 0, o_lda .iaload [0, 20], o_ild (.iload_n 3) 3, o_ald (.aload_n 0) 0, o_getf (.getfield 7) 3 3, o_int (.iconst 1) 1, o_lda .iaload [0, 20], o_ald (.aload_n 0) 0, o_getf (.getfield 7) 3 3, o_int (.iconst 0) 0, o_lda .iaload [0, 20], o_cv (.invokevirtual 306) 3 kX3_orderCost 7 0, o_iret 0] else
  []
def mX3_orderCost : Nat → List tp_Op := fun p => 
  if p = 0 then [o_ild (.iload 5) 5, o_int (.bipush 6) 6, o_icmpne 5 9, o_int (.iconst 0) 0, o_iret 0] else
  if p = 9 then [o_ild (.iload 5) 5, o_int (.bipush 7) 7, o_icmpne 32 45, o_ild (.iload 4) 4, o_int (.iconst 1) 1, o_icmpne 24 43, o_ild (.iload_n 3) 3, o_ald (.aload_n 0) 0, o_getf (.getfield 7) 3 3, o_int (.bipush 11) 11, o_lda .iaload [0, 20], o_icmplt 13 43, o_ald (.aload_n 0) 0, o_getf (.getfield 7) 3 3, o_int (.bipush 11) 11, o_lda .iaload [0, 20], o_goto 4 44] else
  if p = 43 then [o_int (.iconst (-1)) (-1), o_fall 44] else
  if p = 44 then [o_iret 0] else
  if p = 45 then [o_ild (.iload 4) 4, o_int (.iconst 1) 1, o_icmpne 5 53, o_int (.iconst (-1)) (-1), o_iret 0] else
  if p = 53 then [o_ild (.iload 5) 5, o_int (.iconst 4) 4, o_icmpge 22 78, o_ald (.aload_n 0) 0, o_ild (.iload_n 1) 1, o_ald (.aload_n 0) 0, o_ild (.iload_n 2) 2, o_ild (.iload 5) 5, o_cv (.invokevirtual 271) 3 kX3_pushed 2 0, o_ild (.iload 6) 6, o_ild (.iload 7) 7, o_cv (.invokevirtual 302) 3 kX3_pushCost 4 0, o_goto 26 101] else
  if p = 78 then [o_ild (.iload 5) 5, o_int (.iconst 4) 4, o_icmpne 13 94, o_ald (.aload_n 0) 0, o_getf (.getfield 7) 3 3, o_int (.bipush 9) 9, o_lda .iaload [0, 20], o_goto 10 101] else
  if p = 94 then [o_ald (.aload_n 0) 0, o_getf (.getfield 7) 3 3, o_int (.bipush 10) 10, o_lda .iaload [0, 20], o_fall 101] else
  if p = 101 then [o_ist (.istore 8) 8, o_ild (.iload 8) 8, o_ild (.iload_n 3) 3, o_icmpgt 8 114, o_ild (.iload 8) 8, o_goto 4 115] else
  if p = 114 then [o_int (.iconst (-1)) (-1), o_fall 115] else
  if p = 115 then [o_iret 0] else
  []
def mX3_pushed : Nat → List tp_Op := fun p => 
  if p = 0 then [o_ald (.aload_n 0) 0, o_ild (.iload_n 1) 1, o_ild (.iload_n 2) 2, o_int (.iconst 1) 1, o_icmpne 7 11, o_int (.iconst 1) 1, o_goto 13 21] else
  if p = 11 then [o_ild (.iload_n 2) 2, o_int (.iconst 3) 3, o_icmpne 7 20, o_int (.iconst (-1)) (-1), o_goto 4 21] else
  if p = 20 then [o_int (.iconst 0) 0, o_fall 21] else
  if p = 21 then [o_ild (.iload_n 2) 2, o_int (.iconst 2) 2, o_icmpne 7 30, o_int (.iconst 1) 1, o_goto 12 39] else
  if p = 30 then [o_ild (.iload_n 2) 2, o_ifne 7 38, o_int (.iconst (-1)) (-1), o_goto 4 39] else
  if p = 38 then [o_int (.iconst 0) 0, o_fall 39] else
  if p = 39 then [o_cv (.invokevirtual 94) 3 kX3_besideBy 3 0, o_iret 0] else
  []
def mX3_besideBy : Nat → List tp_Op := fun p => 
  if p = 0 then [o_ild (.iload_n 1) 1, o_ald (.aload_n 0) 0, o_getf (.getfield 77) 3 0, o_irem, o_ild (.iload_n 2) 2, o_iadd, o_ist (.istore 4) 4, o_ild (.iload_n 1) 1, o_ald (.aload_n 0) 0, o_getf (.getfield 77) 3 0, o_idiv, o_ild (.iload_n 3) 3, o_iadd, o_ist (.istore 5) 5, o_ild (.iload 4) 4, o_int (.iconst 0) 0, o_ald (.aload_n 0) 0, o_getf (.getfield 77) 3 0, o_int (.iconst 1) 1, o_isub, o_cs (.invokestatic 90) kX3_isIn 3 0, o_ifeq 31 63, o_ild (.iload 5) 5, o_int (.iconst 0) 0, o_ald (.aload_n 0) 0, o_getf (.getfield 80) 3 1, o_int (.iconst 1) 1, o_isub, o_cs (.invokestatic 90) kX3_isIn 3 0, o_ifeq 16 63, o_ild (.iload 4) 4, o_ald (.aload_n 0) 0, o_getf (.getfield 77) 3 0, o_ild (.iload 5) 5, o_imul, o_iadd, o_goto 4 64] else
  if p = 63 then [o_int (.iconst (-1)) (-1), o_fall 64] else
  if p = 64 then [o_iret 0] else
  []
def mX3_pushCost : Nat → List tp_Op := fun p => 
  if p = 0 then [o_ild (.iload_n 2) 2, o_ifge 5 6, o_int (.iconst (-1)) (-1), o_iret 0] else
  if p = 6 then [o_ald (.aload_n 0) 0, o_ild (.iload_n 1) 1, o_ild (.iload_n 2) 2, o_ild (.iload_n 3) 3, o_ild (.iload 4) 4, o_cv (.invokevirtual 288) 3 kX3_nameCell 4 0, o_ald (.aload_n 0) 0, o_int (.iconst 1) 1, o_ald (.aload_n 0) 0, o_getf (.getfield 43) 3 28, o_ild (.iload_n 1) 1, o_ild (.iload_n 2) 2, o_iadd, o_lda .iaload [0, 20], o_int (.bipush 30) 30, o_icmpgt 7 34, o_int (.iconst 1) 1, o_goto 4 35] else
  if p = 34 then [o_int (.iconst 0) 0, o_fall 35] else
  if p = 35 then [o_cv (.invokevirtual 292) 3 kX3_isAny 2 0, o_ifeq 24 62, o_ald (.aload_n 0) 0, o_int (.iconst 5) 5, o_int (.iconst 1) 1, o_ald (.aload_n 0) 0, o_getf (.getfield 43) 3 28, o_ild (.iload_n 1) 1, o_ild (.iload_n 2) 2, o_iadd, o_lda .iaload [0, 20], o_int (.bipush 10) 10, o_idiv, o_iadd, o_cv (.invokevirtual 296) 3 kX3_sumOf 2 0, o_goto 4 63] else
  if p = 62 then [o_int (.iconst (-1)) (-1), o_fall 63] else
  if p = 63 then [o_iret 0] else
  []
def mX3_nameCell : Nat → List tp_Op := fun p => 
  if p = 0 then [o_ald (.aload_n 0) 0, o_getf (.getfield 32) 3 25, o_int (.iconst 0) 0, o_ald (.aload_n 0) 0, o_getf (.getfield 43) 3 28, o_ild (.iload_n 1) 1, o_ild (.iload_n 2) 2, o_iadd, o_lda .iaload [0, 20], o_sta .iastore [0], o_int (.iconst 0) 0, o_ist (.istore 5) 5, o_fall 17] else
  if p = 17 then [o_ild (.iload 5) 5, o_int (.iconst 4) 4, o_icmpge 30 50, o_ald (.aload_n 0) 0, o_getf (.getfield 32) 3 25, o_int (.iconst 1) 1, o_ild (.iload 5) 5, o_iadd, o_ald (.aload_n 0) 0, o_ild (.iload_n 1) 1, o_ald (.aload_n 0) 0, o_ild (.iload_n 2) 2, o_ild (.iload 5) 5, o_cv (.invokevirtual 271) 3 kX3_pushed 2 0, o_cv (.invokevirtual 274) 3 kX3_iceOf 2 0, o_sta .iastore [0], o_inc 5 1, o_goto (-30) 17] else
  if p = 50 then [o_ald (.aload_n 0) 0, o_getf (.getfield 32) 3 25, o_int (.iconst 5) 5, o_ild (.iload_n 2) 2, o_ald (.aload_n 0) 0, o_getf (.getfield 77) 3 0, o_irem, o_sta .iastore [0], o_ald (.aload_n 0) 0, o_getf (.getfield 32) 3 25, o_int (.bipush 6) 6, o_ild (.iload_n 2) 2, o_ald (.aload_n 0) 0, o_getf (.getfield 77) 3 0, o_idiv, o_sta .iastore [0], o_ald (.aload_n 0) 0, o_getf (.getfield 32) 3 25, o_int (.bipush 7) 7, o_ild (.iload_n 3) 3, o_sta .iastore [0], o_ald (.aload_n 0) 0, o_getf (.getfield 32) 3 25, o_int (.bipush 8) 8, o_ild (.iload 4) 4, o_sta .iastore [0], o_ald (.aload_n 0) 0, o_getf (.getfield 32) 3 25, o_int (.bipush 9) 9, o_int (.iconst 0) 0, o_sta .iastore [0], o_ald (.aload_n 0) 0, o_getf (.getfield 32) 3 25, o_int (.bipush 10) 10, o_int (.iconst 0) 0, o_sta .iastore [0], o_vret] else
  []
def mX3_iceOf : Nat → List tp_Op := fun p => 
  if p = 0 then [o_ild (.iload_n 2) 2, o_ifge 13 14, o_ald (.aload_n 0) 0, o_getf (.getfield 7) 3 3, o_int (.bipush 8) 8, o_lda .iaload [0, 20], o_goto 11 22] else
  if p = 14 then [o_ald (.aload_n 0) 0, o_getf (.getfield 43) 3 28, o_ild (.iload_n 1) 1, o_ild (.iload_n 2) 2, o_iadd, o_lda .iaload [0, 20], o_fall 22] else
  if p = 22 then [o_iret 0] else
  []
def mX3_isAny : Nat → List tp_Op := fun p => 
  if p = 0 then [o_int (.iconst 1) 1, o_ist (.istore_n 3) 3, o_int (.iconst 0) 0, o_ist (.istore 4) 4, o_fall 5] else
  if p = 5 then [o_ild (.iload 4) 4, o_ald (.aload_n 0) 0, o_ald (.aload_n 0) 0, o_getf (.getfield 7) 3 3, o_int (.iconst 3) 3, o_lda .iaload [0, 20], o_cv (.invokevirtual 277) 3 kX3_clauses 1 0, o_icmpge 53 70, o_ald (.aload_n 0) 0, o_ald (.aload_n 0) 0, o_getf (.getfield 7) 3 3, o_int (.iconst 3) 3, o_lda .iaload [0, 20], o_ild (.iload 4) 4, o_cv (.invokevirtual 280) 3 kX3_sortAt 2 0, o_ild (.iload_n 1) 1, o_icmpeq 6 39, o_goto 28 64] else
  if p = 39 then [o_int (.iconst 0) 0, o_ist (.istore_n 3) 3, o_ald (.aload_n 0) 0, o_ald (.aload_n 0) 0, o_getf (.getfield 7) 3 3, o_int (.iconst 3) 3, o_lda .iaload [0, 20], o_ild (.iload 4) 4, o_cv (.invokevirtual 283) 3 kX3_work 2 0, o_ald (.aload_n 0) 0, o_getf (.getfield 39) 3 27, o_int (.iconst 0) 0, o_lda .baload [1, 2, 22], o_ifeq 5 64, o_int (.iconst 1) 1, o_iret 1] else
  if p = 64 then [o_inc 4 1, o_goto (-62) 5] else
  if p = 70 then [o_ild (.iload_n 3) 3, o_ifeq 11 82, o_ild (.iload_n 2) 2, o_ifeq 7 82, o_int (.iconst 1) 1, o_goto 4 83] else
  if p = 82 then [o_int (.iconst 0) 0, o_fall 83] else
  if p = 83 then [o_iret 1] else
  []
def mX3_clauses : Nat → List tp_Op := fun p => 
  if p = 0 then [o_ild (.iload_n 1) 1, o_ifge 7 8, o_int (.iconst 0) 0, o_goto 13 18] else
  if p = 8 then [o_ald (.aload_n 0) 0, o_getf (.getfield 16) 3 5, o_int (.sipush 800) 800, o_ild (.iload_n 1) 1, o_imul, o_lda .iaload [0, 20], o_fall 18] else
  if p = 18 then [o_iret 0] else
  []
def mX3_sortAt : Nat → List tp_Op := fun p => 
  if p = 0 then [o_ald (.aload_n 0) 0, o_getf (.getfield 16) 3 5, o_int (.sipush 800) 800, o_ild (.iload_n 1) 1, o_imul, o_int (.iconst 1) 1, o_iadd, o_int (.iconst 4) 4, o_ild (.iload_n 2) 2, o_imul, o_iadd, o_lda .iaload [0, 20], o_iret 0] else
  []
def mX3_work : Nat → List tp_Op := fun p => 
  if p = 0 then [o_int (.sipush 800) 800, o_ild (.iload_n 1) 1, o_imul, o_int (.iconst 1) 1, o_iadd, o_int (.iconst 4) 4, o_ild (.iload_n 2) 2, o_imul, o_iadd, o_ist (.istore_n 3) 3, o_int (.sipush 800) 800, o_ild (.iload_n 1) 1, o_imul, o_int (.bipush 60) 60, o_iadd, o_ist (.istore 4) 4, o_int (.iconst 0) 0, o_ist (.istore 5) 5, o_int (.iconst 0) 0, o_ist (.istore 6) 6, o_ald (.aload_n 0) 0, o_getf (.getfield 16) 3 5, o_ild (.iload_n 3) 3, o_int (.iconst 2) 2, o_iadd, o_lda .iaload [0, 20], o_ist (.istore 7) 7, o_fall 38] else
  if p = 38 then [o_ild (.iload 7) 7, o_ald (.aload_n 0) 0, o_getf (.getfield 16) 3 5, o_ild (.iload_n 3) 3, o_int (.iconst 3) 3, o_iadd, o_lda .iaload [0, 20], o_icmpge 304 352, o_ald (.aload_n 0) 0, o_getf (.getfield 16) 3 5, o_ild (.iload 4) 4, o_int (.iconst 2) 2, o_ild (.iload 7) 7, o_imul, o_iadd, o_lda .iaload [0, 20], o_ist (.istore 8) 8, o_ald (.aload_n 0) 0, o_getf (.getfield 16) 3 5, o_ild (.iload 4) 4, o_int (.iconst 2) 2, o_ild (.iload 7) 7, o_imul, o_iadd, o_int (.iconst 1) 1, o_iadd, o_lda .iaload [0, 20], o_ist (.istore 9) 9, o_ild (.iload 8) 8, o_int (.iconst 1) 1, o_icmpgt 35 119, o_ald (.aload_n 0) 0, o_getf (.getfield 35) 3 26, o_ild (.iload 5) 5, o_ild (.iload 8) 8, o_ifne 9 104, o_ild (.iload 9) 9, o_i2l, o_goto 11 112] else
  if p = 104 then [o_ald (.aload_n 0) 0, o_getf (.getfield 32) 3 25, o_ild (.iload 9) 9, o_lda .iaload [0, 20], o_i2l, o_fall 112] else
  if p = 112 then [o_sta .lastore [3], o_inc 5 1, o_goto 230 346] else
  if p = 119 then [o_ild (.iload 8) 8, o_int (.iconst 2) 2, o_icmpne 25 147, o_ald (.aload_n 0) 0, o_getf (.getfield 35) 3 26, o_ild (.iload 5) 5, o_int (.iconst 1) 1, o_isub, o_ald (.aload_n 0) 0, o_getf (.getfield 35) 3 26, o_ild (.iload 5) 5, o_int (.iconst 1) 1, o_isub, o_lda .laload [3], o_lneg, o_sta .lastore [3], o_goto 202 346] else
  if p = 147 then [o_ild (.iload 8) 8, o_int (.bipush 10) 10, o_icmpge 39 190, o_inc 5 (-1), o_ald (.aload_n 0) 0, o_getf (.getfield 35) 3 26, o_ild (.iload 5) 5, o_int (.iconst 1) 1, o_isub, o_ild (.iload 8) 8, o_ald (.aload_n 0) 0, o_getf (.getfield 35) 3 26, o_ild (.iload 5) 5, o_int (.iconst 1) 1, o_isub, o_lda .laload [3], o_ald (.aload_n 0) 0, o_getf (.getfield 35) 3 26, o_ild (.iload 5) 5, o_lda .laload [3], o_cs (.invokestatic 263) kX3_two 3 0, o_sta .lastore [3], o_goto 159 346] else
  if p = 190 then [o_ild (.iload 8) 8, o_int (.bipush 20) 20, o_icmpge 40 234, o_inc 5 (-2), o_ald (.aload_n 0) 0, o_getf (.getfield 39) 3 27, o_ild (.iload 6) 6, o_ild (.iload 8) 8, o_ald (.aload_n 0) 0, o_getf (.getfield 35) 3 26, o_ild (.iload 5) 5, o_lda .laload [3], o_ald (.aload_n 0) 0, o_getf (.getfield 35) 3 26, o_ild (.iload 5) 5, o_int (.iconst 1) 1, o_iadd, o_lda .laload [3], o_cs (.invokestatic 267) kX3_isAsked 3 0, o_sta .bastore [1, 2], o_inc 6 1, o_goto 115 346] else
  if p = 234 then [o_ild (.iload 8) 8, o_int (.bipush 20) 20, o_icmpne 32 270, o_ald (.aload_n 0) 0, o_getf (.getfield 39) 3 27, o_ild (.iload 6) 6, o_int (.iconst 1) 1, o_isub, o_ald (.aload_n 0) 0, o_getf (.getfield 39) 3 27, o_ild (.iload 6) 6, o_int (.iconst 1) 1, o_isub, o_lda .baload [1, 2, 22], o_ifne 7 265, o_int (.iconst 1) 1, o_goto 4 266] else
  if p = 265 then [o_int (.iconst 0) 0, o_fall 266] else
  if p = 266 then [o_sta .bastore [1, 2], o_goto 79 346] else
  if p = 270 then [o_inc 6 (-1), o_ald (.aload_n 0) 0, o_getf (.getfield 39) 3 27, o_ild (.iload 6) 6, o_int (.iconst 1) 1, o_isub, o_ild (.iload 8) 8, o_int (.bipush 21) 21, o_icmpne 33 318, o_ald (.aload_n 0) 0, o_getf (.getfield 39) 3 27, o_ild (.iload 6) 6, o_int (.iconst 1) 1, o_isub, o_lda .baload [1, 2, 22], o_ifeq 17 314, o_ald (.aload_n 0) 0, o_getf (.getfield 39) 3 27, o_ild (.iload 6) 6, o_lda .baload [1, 2, 22], o_ifeq 7 314, o_int (.iconst 1) 1, o_goto 34 345] else
  if p = 314 then [o_int (.iconst 0) 0, o_goto 30 345] else
  if p = 318 then [o_ald (.aload_n 0) 0, o_getf (.getfield 39) 3 27, o_ild (.iload 6) 6, o_int (.iconst 1) 1, o_isub, o_lda .baload [1, 2, 22], o_ifne 13 340, o_ald (.aload_n 0) 0, o_getf (.getfield 39) 3 27, o_ild (.iload 6) 6, o_lda .baload [1, 2, 22], o_ifeq 7 344, o_fall 340] else
  if p = 340 then [o_int (.iconst 1) 1, o_goto 4 345] else
  if p = 344 then [o_int (.iconst 0) 0, o_fall 345] else
  if p = 345 then [o_sta .bastore [1, 2], o_fall 346] else
  if p = 346 then [o_inc 7 1, o_goto (-311) 38] else
  if p = 352 then [o_vret] else
  []
def mX3_two : Nat → List tp_Op := fun p => 
  if p = 0 then [o_ild (.iload_n 0) 0, o_sw (.tableswitch 48 3 5 #[27, 34, 41]) [(3, 28), (4, 35), (5, 42)] 49] else
  if p = 28 then [o_lld (.lload_n 1) 1, o_lld (.lload_n 3) 3, o_ladd, o_cs (.invokestatic 259) kX3_clip 1 0, o_lret] else
  if p = 35 then [o_lld (.lload_n 1) 1, o_lld (.lload_n 3) 3, o_lsub, o_cs (.invokestatic 259) kX3_clip 1 0, o_lret] else
  if p = 42 then [o_lld (.lload_n 1) 1, o_lld (.lload_n 3) 3, o_lmul, o_cs (.invokestatic 259) kX3_clip 1 0, o_lret] else
  if p = 49 then [o_lld (.lload_n 3) 3, o_lng (.lconst 0) 0, o_lcmp, o_ifne 7 59, o_lng (.lconst 0) 0, o_goto 9 65] else
  if p = 59 then [o_lld (.lload_n 1) 1, o_lld (.lload_n 3) 3, o_ldiv, o_cs (.invokestatic 259) kX3_clip 1 0, o_fall 65] else
  if p = 65 then [o_lret] else
  []
def mX3_clip : Nat → List tp_Op := fun p => 
  if p = 0 then [o_lld (.lload_n 0) 0, o_lng (.ldc2_w 255) 1000000, o_lcmp, o_ifle 9 14, o_lng (.ldc2_w 255) 1000000, o_goto 18 29] else
  if p = 14 then [o_lld (.lload_n 0) 0, o_lng (.ldc2_w 257) (-1000000), o_lcmp, o_ifge 9 28, o_lng (.ldc2_w 257) (-1000000), o_goto 4 29] else
  if p = 28 then [o_lld (.lload_n 0) 0, o_fall 29] else
  if p = 29 then [o_lret] else
  []
def mX3_isAsked : Nat → List tp_Op := fun p => 
  if p = 0 then [o_ild (.iload_n 0) 0, o_int (.bipush 10) 10, o_icmpne 17 20, o_lld (.lload_n 1) 1, o_lld (.lload_n 3) 3, o_lcmp, o_ifge 7 16, o_int (.iconst 1) 1, o_goto 98 111] else
  if p = 16 then [o_int (.iconst 0) 0, o_goto 94 111] else
  if p = 20 then [o_ild (.iload_n 0) 0, o_int (.bipush 11) 11, o_icmpne 17 40, o_lld (.lload_n 1) 1, o_lld (.lload_n 3) 3, o_lcmp, o_ifgt 7 36, o_int (.iconst 1) 1, o_goto 78 111] else
  if p = 36 then [o_int (.iconst 0) 0, o_goto 74 111] else
  if p = 40 then [o_ild (.iload_n 0) 0, o_int (.bipush 12) 12, o_icmpne 17 60, o_lld (.lload_n 1) 1, o_lld (.lload_n 3) 3, o_lcmp, o_ifle 7 56, o_int (.iconst 1) 1, o_goto 58 111] else
  if p = 56 then [o_int (.iconst 0) 0, o_goto 54 111] else
  if p = 60 then [o_ild (.iload_n 0) 0, o_int (.bipush 13) 13, o_icmpne 17 80, o_lld (.lload_n 1) 1, o_lld (.lload_n 3) 3, o_lcmp, o_iflt 7 76, o_int (.iconst 1) 1, o_goto 38 111] else
  if p = 76 then [o_int (.iconst 0) 0, o_goto 34 111] else
  if p = 80 then [o_ild (.iload_n 0) 0, o_int (.bipush 14) 14, o_icmpne 17 100, o_lld (.lload_n 1) 1, o_lld (.lload_n 3) 3, o_lcmp, o_ifne 7 96, o_int (.iconst 1) 1, o_goto 18 111] else
  if p = 96 then [o_int (.iconst 0) 0, o_goto 14 111] else
  if p = 100 then [o_lld (.lload_n 1) 1, o_lld (.lload_n 3) 3, o_lcmp, o_ifeq 7 110, o_int (.iconst 1) 1, o_goto 4 111] else
  if p = 110 then [o_int (.iconst 0) 0, o_fall 111] else
  if p = 111 then [o_iret 1] else
  []
def mX3_sumOf : Nat → List tp_Op := fun p => 
  if p = 0 then [o_int (.iconst 0) 0, o_ist (.istore_n 3) 3, o_fall 2] else
  if p = 2 then [o_ild (.iload_n 3) 3, o_ald (.aload_n 0) 0, o_ald (.aload_n 0) 0, o_getf (.getfield 7) 3 3, o_int (.iconst 3) 3, o_lda .iaload [0, 20], o_cv (.invokevirtual 277) 3 kX3_clauses 1 0, o_icmpge 79 92, o_ald (.aload_n 0) 0, o_ald (.aload_n 0) 0, o_getf (.getfield 7) 3 3, o_int (.iconst 3) 3, o_lda .iaload [0, 20], o_ild (.iload_n 3) 3, o_cv (.invokevirtual 280) 3 kX3_sortAt 2 0, o_ild (.iload_n 1) 1, o_icmpeq 6 34, o_goto 55 86] else
  if p = 34 then [o_ald (.aload_n 0) 0, o_ald (.aload_n 0) 0, o_getf (.getfield 7) 3 3, o_int (.iconst 3) 3, o_lda .iaload [0, 20], o_ild (.iload_n 3) 3, o_cv (.invokevirtual 283) 3 kX3_work 2 0, o_ald (.aload_n 0) 0, o_getf (.getfield 35) 3 26, o_int (.iconst 0) 0, o_lda .laload [3], o_lng (.lconst 0) 0, o_lcmp, o_ifge 7 60, o_int (.iconst 0) 0, o_goto 28 85] else
  if p = 60 then [o_ald (.aload_n 0) 0, o_getf (.getfield 35) 3 26, o_int (.iconst 0) 0, o_lda .laload [3], o_lng (.ldc2_w 286) 99, o_lcmp, o_ifle 8 78, o_int (.bipush 99) 99, o_goto 10 85] else
  if p = 78 then [o_ald (.aload_n 0) 0, o_getf (.getfield 35) 3 26, o_int (.iconst 0) 0, o_lda .laload [3], o_l2i, o_fall 85] else
  if p = 85 then [o_iret 0] else
  if p = 86 then [o_inc 3 1, o_goto (-87) 2] else
  if p = 92 then [o_ild (.iload_n 2) 2, o_iret 0] else
  []
def mX3_watch : Nat → List tp_Op := fun p => 
  if p = 0 then [o_ild (.iload_n 1) 1, o_cs (.invokestatic 102) kX3_isWind 1 0, o_ifeq 34 38, o_ild (.iload_n 2) 2, o_int (.iconst (-1)) (-1), o_int (.bipush 7) 7, o_cs (.invokestatic 90) kX3_isIn 3 0, o_ifeq 24 38, o_ild (.iload_n 3) 3, o_int (.iconst (-1)) (-1), o_int (.bipush 7) 7, o_cs (.invokestatic 90) kX3_isIn 3 0, o_ifeq 14 38, o_ald (.aload_n 0) 0, o_getf (.getfield 7) 3 3, o_int (.iconst 0) 0, o_lda .iaload [0, 20], o_int (.bipush 99) 99, o_icmpne 5 40, o_fall 38] else
  if p = 38 then [o_int (.iconst (-1)) (-1), o_iret 0] else
  if p = 40 then [o_ald (.aload_n 0) 0, o_getf (.getfield 7) 3 3, o_int (.iconst 0) 0, o_int (.iconst 0) 0, o_cs (.invokestatic 108) kX3_ofShip 2 0, o_lda .iaload [0, 20], o_ist (.istore 4) 4, o_ald (.aload_n 0) 0, o_int (.sipush 504) 504, o_cv (.invokevirtual 316) 3 kX3_layNow 1 0, o_ald (.aload_n 0) 0, o_int (.sipush 468) 468, o_cv (.invokevirtual 316) 3 kX3_layNow 1 0, o_ald (.aload_n 0) 0, o_int (.iconst 0) 0, o_int (.sipush 504) 504, o_ild (.iload_n 2) 2, o_cv (.invokevirtual 332) 3 kX3_does 3 0, o_ist (.istore 5) 5, o_ild (.iload 5) 5, o_ifeq 20 99, o_ild (.iload_n 2) 2, o_int (.iconst 4) 4, o_icmpge 15 99, o_ald (.aload_n 0) 0, o_getf (.getfield 43) 3 28, o_int (.sipush 468) 468, o_ild (.iload 4) 4, o_iadd, o_int (.iconst 0) 0, o_sta .iastore [0], o_fall 99] else
  if p = 99 then [o_ald (.aload_n 0) 0, o_int (.iconst 1) 1, o_int (.sipush 468) 468, o_ild (.iload_n 3) 3, o_cv (.invokevirtual 332) 3 kX3_does 3 0, o_ist (.istore 6) 6, o_ald (.aload_n 0) 0, o_int (.sipush 504) 504, o_int (.sipush 540) 540, o_ild (.iload_n 1) 1, o_ald (.aload_n 0) 0, o_getf (.getfield 7) 3 3, o_int (.iconst 0) 0, o_lda .iaload [0, 20], o_cv (.invokevirtual 335) 3 kX3_go 4 0, o_int (.iconst 0) 0, o_ist (.istore 7) 7, o_fall 130] else
  if p = 130 then [o_ild (.iload 7) 7, o_ald (.aload_n 0) 0, o_getf (.getfield 83) 3 2, o_icmpge 52 188, o_ald (.aload_n 0) 0, o_getf (.getfield 7) 3 3, o_int (.bipush 30) 30, o_ild (.iload 7) 7, o_iadd, o_ald (.aload_n 0) 0, o_getf (.getfield 43) 3 28, o_int (.sipush 540) 540, o_ild (.iload 7) 7, o_iadd, o_lda .iaload [0, 20], o_sta .iastore [0], o_ald (.aload_n 0) 0, o_getf (.getfield 43) 3 28, o_int (.sipush 504) 504, o_ild (.iload 7) 7, o_iadd, o_ald (.aload_n 0) 0, o_getf (.getfield 43) 3 28, o_int (.sipush 540) 540, o_ild (.iload 7) 7, o_iadd, o_lda .iaload [0, 20], o_sta .iastore [0], o_inc 7 1, o_goto (-55) 130] else
  if p = 188 then [o_ald (.aload_n 0) 0, o_int (.iconst 0) 0, o_ild (.iload 5) 5, o_ild (.iload_n 2) 2, o_ild (.iload_n 1) 1, o_cv (.invokevirtual 338) 3 kX3_floatShip 4 0, o_ald (.aload_n 0) 0, o_int (.iconst 1) 1, o_ild (.iload 6) 6, o_ild (.iload_n 3) 3, o_ild (.iload_n 1) 1, o_cv (.invokevirtual 338) 3 kX3_floatShip 4 0, o_int (.iconst 0) 0, o_ist (.istore 7) 7, o_fall 209] else
  if p = 209 then [o_ild (.iload 7) 7, o_ald (.aload_n 0) 0, o_getf (.getfield 7) 3 3, o_int (.bipush 7) 7, o_lda .iaload [0, 20], o_icmpge 57 275, o_ald (.aload_n 0) 0, o_getf (.getfield 7) 3 3, o_int (.sipush 220) 220, o_int (.iconst 2) 2, o_ild (.iload 7) 7, o_imul, o_iadd, o_lda .iaload [0, 20], o_iflt 35 269, o_ald (.aload_n 0) 0, o_getf (.getfield 7) 3 3, o_int (.sipush 220) 220, o_int (.iconst 2) 2, o_ild (.iload 7) 7, o_imul, o_iadd, o_ald (.aload_n 0) 0, o_ald (.aload_n 0) 0, o_getf (.getfield 7) 3 3, o_int (.sipush 220) 220, o_int (.iconst 2) 2, o_ild (.iload 7) 7, o_imul, o_iadd, o_lda .iaload [0, 20], o_ild (.iload_n 1) 1, o_int (.iconst 1) 1, o_cv (.invokevirtual 299) 3 kX3_driven 3 0, o_sta .iastore [0], o_fall 269] else
  if p = 269 then [o_inc 7 1, o_goto (-63) 209] else
  if p = 275 then [o_ald (.aload_n 0) 0, o_getf (.getfield 7) 3 3, o_int (.iconst 1) 1, o_ild (.iload_n 1) 1, o_sta .iastore [0], o_ald (.aload_n 0) 0, o_getf (.getfield 7) 3 3, o_int (.iconst 0) 0, o_dup2, o_lda .iaload [0, 20], o_int (.iconst 1) 1, o_iadd, o_sta .iastore [0], o_ild (.iload 5) 5, o_ifeq 7 301, o_int (.iconst 1) 1, o_goto 4 302] else
  if p = 301 then [o_int (.iconst 0) 0, o_fall 302] else
  if p = 302 then [o_ild (.iload 6) 6, o_ifeq 7 311, o_int (.iconst 2) 2, o_goto 4 312] else
  if p = 311 then [o_int (.iconst 0) 0, o_fall 312] else
  if p = 312 then [o_iadd, o_iret 0] else
  []
def mX3_does : Nat → List tp_Op := fun p => 
  if p = 0 then [o_ild (.iload_n 3) 3, o_iflt 11 12, o_ald (.aload_n 0) 0, o_ild (.iload_n 1) 1, o_cv (.invokevirtual 313) 3 kX3_isFree 1 0, o_ifne 5 14, o_fall 12] else
  if p = 12 then [o_int (.iconst 0) 0, o_iret 1] else
  if p = 14 then [o_ald (.aload_n 0) 0, o_ild (.iload_n 1) 1, o_ild (.iload_n 2) 2, o_ild (.iload_n 3) 3, o_cv (.invokevirtual 319) 3 kX3_costOf 3 0, o_ist (.istore 4) 4, o_ild (.iload 4) 4, o_ifge 5 30, o_int (.iconst 0) 0, o_iret 1] else
  if p = 30 then [o_ald (.aload_n 0) 0, o_getf (.getfield 7) 3 3, o_ild (.iload_n 1) 1, o_int (.iconst 1) 1, o_cs (.invokestatic 108) kX3_ofShip 2 0, o_dup2, o_lda .iaload [0, 20], o_ild (.iload 4) 4, o_isub, o_sta .iastore [0], o_ald (.aload_n 0) 0, o_getf (.getfield 7) 3 3, o_ild (.iload_n 1) 1, o_int (.iconst 2) 2, o_cs (.invokestatic 108) kX3_ofShip 2 0, o_ild (.iload_n 3) 3, o_ald (.aload_n 0) 0, o_getf (.getfield 7) 3 3, o_ild (.iload_n 1) 1, o_int (.iconst 2) 2, o_cs (.invokestatic 108) kX3_ofShip 2 0, o_lda .iaload [0, 20], o_cs (.invokestatic 322) kX3_firesBehind 2 0, o_sta .iastore [0], o_ild (.iload_n 3) 3, o_int (.iconst 3) 3, o_icmple 5 76, o_int (.iconst 1) 1, o_iret 1] else
  if p = 76 then [o_ald (.aload_n 0) 0, o_ald (.aload_n 0) 0, o_getf (.getfield 7) 3 3, o_ild (.iload_n 1) 1, o_int (.iconst 0) 0, o_cs (.invokestatic 108) kX3_ofShip 2 0, o_lda .iaload [0, 20], o_ild (.iload_n 3) 3, o_cv (.invokevirtual 271) 3 kX3_pushed 2 0, o_ist (.istore 5) 5, o_ald (.aload_n 0) 0, o_getf (.getfield 7) 3 3, o_ild (.iload_n 1) 1, o_int (.iconst 0) 0, o_cs (.invokestatic 108) kX3_ofShip 2 0, o_ild (.iload 5) 5, o_sta .iastore [0], o_ald (.aload_n 0) 0, o_getf (.getfield 7) 3 3, o_int (.bipush 70) 70, o_ild (.iload 5) 5, o_iadd, o_lda .iaload [0, 20], o_int (.iconst 1) 1, o_icmpne 14 130, o_ald (.aload_n 0) 0, o_getf (.getfield 7) 3 3, o_ild (.iload_n 1) 1, o_int (.iconst 3) 3, o_cs (.invokestatic 108) kX3_ofShip 2 0, o_int (.iconst 1) 1, o_sta .iastore [0], o_fall 130] else
  if p = 130 then [o_int (.iconst 1) 1, o_iret 1] else
  []
def mX3_firesBehind : Nat → List tp_Op := fun p => 
  if p = 0 then [o_ild (.iload_n 0) 0, o_int (.bipush 6) 6, o_icmpne 7 10, o_int (.iconst 1) 1, o_goto 14 21] else
  if p = 10 then [o_ild (.iload_n 0) 0, o_int (.bipush 7) 7, o_icmpne 7 20, o_int (.iconst 0) 0, o_goto 4 21] else
  if p = 20 then [o_ild (.iload_n 1) 1, o_fall 21] else
  if p = 21 then [o_iret 0] else
  []
def mX3_go : Nat → List tp_Op := fun p => 
  if p = 0 then [o_int (.iconst 0) 0, o_ist (.istore 5) 5, o_fall 3] else
  if p = 3 then [o_ild (.iload 5) 5, o_ald (.aload_n 0) 0, o_getf (.getfield 83) 3 2, o_icmpge 33 42, o_ald (.aload_n 0) 0, o_getf (.getfield 43) 3 28, o_int (.sipush 648) 648, o_ild (.iload 5) 5, o_iadd, o_ald (.aload_n 0) 0, o_ild (.iload_n 1) 1, o_ald (.aload_n 0) 0, o_ild (.iload 5) 5, o_ild (.iload_n 3) 3, o_int (.iconst (-1)) (-1), o_cv (.invokevirtual 299) 3 kX3_driven 3 0, o_cv (.invokevirtual 274) 3 kX3_iceOf 2 0, o_sta .iastore [0], o_inc 5 1, o_goto (-36) 3] else
  if p = 42 then [o_int (.iconst 0) 0, o_ist (.istore 5) 5, o_fall 45] else
  if p = 45 then [o_ild (.iload 5) 5, o_ald (.aload_n 0) 0, o_getf (.getfield 83) 3 2, o_icmpge 47 98, o_ald (.aload_n 0) 0, o_int (.sipush 648) 648, o_ild (.iload 5) 5, o_ild (.iload_n 3) 3, o_ild (.iload 4) 4, o_cv (.invokevirtual 288) 3 kX3_nameCell 4 0, o_ald (.aload_n 0) 0, o_getf (.getfield 43) 3 28, o_ild (.iload_n 2) 2, o_ild (.iload 5) 5, o_iadd, o_ald (.aload_n 0) 0, o_int (.bipush 6) 6, o_ald (.aload_n 0) 0, o_getf (.getfield 43) 3 28, o_int (.sipush 648) 648, o_ild (.iload 5) 5, o_iadd, o_lda .iaload [0, 20], o_cv (.invokevirtual 296) 3 kX3_sumOf 2 0, o_sta .iastore [0], o_inc 5 1, o_goto (-50) 45] else
  if p = 98 then [o_vret] else
  []
def mX3_driven : Nat → List tp_Op := fun p => 
  if p = 0 then [o_ald (.aload_n 0) 0, o_ild (.iload_n 1) 1, o_ild (.iload_n 3) 3, o_ald (.aload_n 0) 0, o_getf (.getfield 7) 3 3, o_int (.sipush 150) 150, o_int (.iconst 2) 2, o_ild (.iload_n 2) 2, o_imul, o_iadd, o_lda .iaload [0, 20], o_imul, o_ild (.iload_n 3) 3, o_ald (.aload_n 0) 0, o_getf (.getfield 7) 3 3, o_int (.sipush 150) 150, o_int (.iconst 2) 2, o_ild (.iload_n 2) 2, o_imul, o_iadd, o_int (.iconst 1) 1, o_iadd, o_lda .iaload [0, 20], o_imul, o_cv (.invokevirtual 94) 3 kX3_besideBy 3 0, o_iret 0] else
  []
def mX3_floatShip : Nat → List tp_Op := fun p => 
  if p = 0 then [o_ald (.aload_n 0) 0, o_ild (.iload_n 1) 1, o_cv (.invokevirtual 313) 3 kX3_isFree 1 0, o_ifne 4 9, o_vret] else
  if p = 9 then [o_ild (.iload_n 2) 2, o_ifeq 17 27, o_ild (.iload_n 3) 3, o_int (.iconst 4) 4, o_icmplt 8 23, o_ild (.iload_n 3) 3, o_int (.iconst 5) 5, o_icmpne 7 27, o_fall 23] else
  if p = 23 then [o_int (.iconst 1) 1, o_goto 4 28] else
  if p = 27 then [o_int (.iconst 0) 0, o_fall 28] else
  if p = 28 then [o_ist (.istore 5) 5, o_ild (.iload 5) 5, o_ifne 29 61, o_ald (.aload_n 0) 0, o_getf (.getfield 7) 3 3, o_ild (.iload_n 1) 1, o_int (.iconst 0) 0, o_cs (.invokestatic 108) kX3_ofShip 2 0, o_ald (.aload_n 0) 0, o_ald (.aload_n 0) 0, o_getf (.getfield 7) 3 3, o_ild (.iload_n 1) 1, o_int (.iconst 0) 0, o_cs (.invokestatic 108) kX3_ofShip 2 0, o_lda .iaload [0, 20], o_ild (.iload 4) 4, o_cv (.invokevirtual 325) 3 kX3_drifted 2 0, o_sta .iastore [0], o_fall 61] else
  if p = 61 then [o_ald (.aload_n 0) 0, o_int (.sipush 504) 504, o_ald (.aload_n 0) 0, o_getf (.getfield 7) 3 3, o_ild (.iload_n 1) 1, o_int (.iconst 0) 0, o_cs (.invokestatic 108) kX3_ofShip 2 0, o_lda .iaload [0, 20], o_ild (.iload 4) 4, o_ald (.aload_n 0) 0, o_getf (.getfield 7) 3 3, o_int (.iconst 0) 0, o_lda .iaload [0, 20], o_cv (.invokevirtual 328) 3 kX3_nips 4 0, o_ifeq 14 100, o_ald (.aload_n 0) 0, o_getf (.getfield 7) 3 3, o_ild (.iload_n 1) 1, o_int (.iconst 3) 3, o_cs (.invokestatic 108) kX3_ofShip 2 0, o_int (.iconst 2) 2, o_sta .iastore [0], o_fall 100] else
  if p = 100 then [o_vret] else
  []
def mX3_drifted : Nat → List tp_Op := fun p => 
  if p = 0 then [o_ald (.aload_n 0) 0, o_ild (.iload_n 1) 1, o_ild (.iload_n 2) 2, o_int (.iconst 1) 1, o_cv (.invokevirtual 299) 3 kX3_driven 3 0, o_ist (.istore_n 3) 3, o_ild (.iload_n 3) 3, o_ifge 7 16, o_ild (.iload_n 1) 1, o_goto 4 17] else
  if p = 16 then [o_ild (.iload_n 3) 3, o_fall 17] else
  if p = 17 then [o_iret 0] else
  []
def mX3_nips : Nat → List tp_Op := fun p => 
  if p = 0 then [o_ald (.aload_n 0) 0, o_ild (.iload_n 1) 1, o_ild (.iload_n 2) 2, o_ild (.iload_n 3) 3, o_ild (.iload 4) 4, o_cv (.invokevirtual 288) 3 kX3_nameCell 4 0, o_ald (.aload_n 0) 0, o_int (.iconst 2) 2, o_int (.iconst 0) 0, o_cv (.invokevirtual 292) 3 kX3_isAny 2 0, o_iret 1] else
  []
def mX3_of : Nat → List tp_Op := fun p => 
  if p = 0 then [o_ild (.iload_n 1) 1, o_cs (.invokestatic 105) kX3_isShip 1 0, o_ifeq 25 29, o_ild (.iload_n 2) 2, o_int (.iconst 0) 0, o_int (.iconst 3) 3, o_cs (.invokestatic 90) kX3_isIn 3 0, o_ifeq 16 29, o_ald (.aload_n 0) 0, o_getf (.getfield 7) 3 3, o_ild (.iload_n 1) 1, o_int (.iconst 4) 4, o_cs (.invokestatic 108) kX3_ofShip 2 0, o_lda .iaload [0, 20], o_ifne 5 31, o_fall 29] else
  if p = 29 then [o_int (.iconst (-1)) (-1), o_iret 0] else
  if p = 31 then [o_ald (.aload_n 0) 0, o_getf (.getfield 7) 3 3, o_ild (.iload_n 1) 1, o_ild (.iload_n 2) 2, o_cs (.invokestatic 108) kX3_ofShip 2 0, o_lda .iaload [0, 20], o_iret 0] else
  []
def mX3_ahead : Nat → List tp_Op := fun p => 
  if p = 0 then [o_ild (.iload_n 1) 1, o_int (.iconst 0) 0, o_int (.bipush 11) 11, o_cs (.invokestatic 90) kX3_isIn 3 0, o_ifeq 10 17, o_ild (.iload_n 2) 2, o_cs (.invokestatic 102) kX3_isWind 1 0, o_ifne 5 19, o_fall 17] else
  if p = 17 then [o_int (.iconst (-1)) (-1), o_iret 0] else
  if p = 19 then [o_ald (.aload_n 0) 0, o_getf (.getfield 7) 3 3, o_int (.sipush 180) 180, o_ild (.iload_n 1) 1, o_iadd, o_ild (.iload_n 2) 2, o_sta .iastore [0], o_ald (.aload_n 0) 0, o_getf (.getfield 7) 3 3, o_int (.iconst 4) 4, o_ild (.iload_n 1) 1, o_int (.iconst 1) 1, o_iadd, o_ald (.aload_n 0) 0, o_getf (.getfield 7) 3 3, o_int (.iconst 4) 4, o_lda .iaload [0, 20], o_icmple 9 53, o_ild (.iload_n 1) 1, o_int (.iconst 1) 1, o_iadd, o_goto 9 59] else
  if p = 53 then [o_ald (.aload_n 0) 0, o_getf (.getfield 7) 3 3, o_int (.iconst 4) 4, o_lda .iaload [0, 20], o_fall 59] else
  if p = 59 then [o_sta .iastore [0], o_ald (.aload_n 0) 0, o_getf (.getfield 7) 3 3, o_int (.iconst 4) 4, o_lda .iaload [0, 20], o_iret 0] else
  []
def mX3_many : Nat → List tp_Op := fun p => 
  if p = 0 then [o_ild (.iload_n 1) 1, o_int (.iconst 0) 0, o_int (.bipush 12) 12, o_cs (.invokestatic 90) kX3_isIn 3 0, o_ifeq 12 19, o_ild (.iload_n 2) 2, o_int (.iconst 0) 0, o_ild (.iload_n 1) 1, o_cs (.invokestatic 90) kX3_isIn 3 0, o_ifne 5 21, o_fall 19] else
  if p = 19 then [o_int (.iconst 0) 0, o_iret 1] else
  if p = 21 then [o_ald (.aload_n 0) 0, o_getf (.getfield 7) 3 3, o_int (.iconst 4) 4, o_ild (.iload_n 1) 1, o_sta .iastore [0], o_ald (.aload_n 0) 0, o_getf (.getfield 7) 3 3, o_int (.iconst 5) 5, o_ild (.iload_n 2) 2, o_sta .iastore [0], o_int (.iconst 1) 1, o_iret 1] else
  []
def mX3_soonest : Nat → List tp_Op := fun p => 
  if p = 0 then [o_ald (.aload_n 0) 0, o_int (.iconst 0) 0, o_cv (.invokevirtual 313) 3 kX3_isFree 1 0, o_ifeq 23 28, o_ild (.iload_n 1) 1, o_int (.iconst 0) 0, o_int (.iconst 1) 1, o_cs (.invokestatic 90) kX3_isIn 3 0, o_ifne 16 30, o_ild (.iload_n 1) 1, o_int (.bipush 10) 10, o_int (.bipush 21) 21, o_cs (.invokestatic 90) kX3_isIn 3 0, o_ifne 5 30, o_fall 28] else
  if p = 28 then [o_int (.iconst (-1)) (-1), o_iret 0] else
  if p = 30 then [o_ald (.aload_n 0) 0, o_cv (.invokevirtual 364) 3 kX3_findOut 0 0, o_ald (.aload_n 0) 0, o_getf (.getfield 53) 3 31, o_int (.iconst 0) 0, o_ald (.aload_n 0) 0, o_cv (.invokevirtual 367) 3 kX3_shipCell 0 0, o_ald (.aload_n 0) 0, o_cv (.invokevirtual 370) 3 kX3_shipCoal 0 0, o_ald (.aload_n 0) 0, o_cv (.invokevirtual 373) 3 kX3_shipBanked 0 0, o_cs (.invokestatic 352) kX3_stateAt 4 0, o_lda .iaload [0, 20], o_ist (.istore_n 2) 2, o_ild (.iload_n 2) 2, o_ifge 5 62, o_int (.iconst (-1)) (-1), o_iret 0] else
  if p = 62 then [o_ild (.iload_n 2) 2, o_int (.bipush 100) 100, o_idiv, o_ist (.istore_n 3) 3, o_ild (.iload_n 1) 1, o_int (.iconst 2) 2, o_icmpge 19 88, o_ild (.iload_n 1) 1, o_ifne 7 80, o_ild (.iload_n 3) 3, o_goto 10 87] else
  if p = 80 then [o_int (.bipush 99) 99, o_ild (.iload_n 2) 2, o_int (.bipush 100) 100, o_irem, o_isub, o_fall 87] else
  if p = 87 then [o_iret 0] else
  if p = 88 then [o_ild (.iload_n 1) 1, o_int (.bipush 10) 10, o_isub, o_ild (.iload_n 3) 3, o_icmplt 5 98, o_int (.iconst (-1)) (-1), o_iret 0] else
  if p = 98 then [o_ald (.aload_n 0) 0, o_cv (.invokevirtual 367) 3 kX3_shipCell 0 0, o_ist (.istore 4) 4, o_ald (.aload_n 0) 0, o_cv (.invokevirtual 370) 3 kX3_shipCoal 0 0, o_ist (.istore 5) 5, o_ald (.aload_n 0) 0, o_cv (.invokevirtual 373) 3 kX3_shipBanked 0 0, o_ist (.istore 6) 6, o_int (.iconst 0) 0, o_ist (.istore 7) 7, o_fall 119] else
  if p = 119 then [o_ild (.iload 7) 7, o_ild (.iload_n 1) 1, o_int (.bipush 10) 10, o_isub, o_icmpge 63 188, o_ald (.aload_n 0) 0, o_ild (.iload 7) 7, o_ild (.iload 4) 4, o_ild (.iload 5) 5, o_ild (.iload 6) 6, o_cv (.invokevirtual 361) 3 kX3_bestOut 4 0, o_ist (.istore 8) 8, o_ild (.iload 5) 5, o_ald (.aload_n 0) 0, o_ild (.iload 7) 7, o_ild (.iload 4) 4, o_ild (.iload 5) 5, o_ild (.iload 6) 6, o_ild (.iload 8) 8, o_cv (.invokevirtual 345) 3 kX3_costAhead 5 0, o_isub, o_ist (.istore 5) 5, o_ald (.aload_n 0) 0, o_ild (.iload 7) 7, o_ild (.iload 4) 4, o_ild (.iload 8) 8, o_cv (.invokevirtual 349) 3 kX3_cellAhead 3 0, o_ist (.istore 4) 4, o_ild (.iload 8) 8, o_ild (.iload 6) 6, o_cs (.invokestatic 322) kX3_firesBehind 2 0, o_ist (.istore 6) 6, o_inc 7 1, o_goto (-66) 119] else
  if p = 188 then [o_ald (.aload_n 0) 0, o_ild (.iload_n 1) 1, o_int (.bipush 10) 10, o_isub, o_ild (.iload 4) 4, o_ild (.iload 5) 5, o_ild (.iload 6) 6, o_cv (.invokevirtual 361) 3 kX3_bestOut 4 0, o_iret 0] else
  []
def mX3_findOut : Nat → List tp_Op := fun p => 
  if p = 0 then [o_ald (.aload_n 0) 0, o_cv (.invokevirtual 358) 3 kX3_look 0 0, o_ald (.aload_n 0) 0, o_getf (.getfield 7) 3 3, o_int (.iconst 4) 4, o_lda .iaload [0, 20], o_ist (.istore_n 1) 1, o_ild (.iload_n 1) 1, o_int (.iconst 0) 0, o_int (.iconst 0) 0, o_int (.iconst 0) 0, o_cs (.invokestatic 352) kX3_stateAt 4 0, o_ist (.istore_n 2) 2, o_fall 19] else
  if p = 19 then [o_ild (.iload_n 2) 2, o_ild (.iload_n 1) 1, o_int (.iconst 1) 1, o_iadd, o_int (.iconst 0) 0, o_int (.iconst 0) 0, o_int (.iconst 0) 0, o_cs (.invokestatic 352) kX3_stateAt 4 0, o_icmpge 16 45, o_ald (.aload_n 0) 0, o_getf (.getfield 53) 3 31, o_ild (.iload_n 2) 2, o_int (.iconst (-1)) (-1), o_sta .iastore [0], o_inc 2 1, o_goto (-23) 19] else
  if p = 45 then [o_ild (.iload_n 1) 1, o_int (.iconst 1) 1, o_isub, o_ist (.istore_n 2) 2, o_fall 49] else
  if p = 49 then [o_ild (.iload_n 2) 2, o_iflt 67 117, o_int (.iconst 0) 0, o_ist (.istore_n 3) 3, o_fall 55] else
  if p = 55 then [o_ild (.iload_n 3) 3, o_ald (.aload_n 0) 0, o_getf (.getfield 83) 3 2, o_icmpge 51 111, o_int (.iconst 0) 0, o_ist (.istore 4) 4, o_fall 66] else
  if p = 66 then [o_ild (.iload 4) 4, o_int (.bipush 100) 100, o_icmpge 35 105, o_int (.iconst 0) 0, o_ist (.istore 5) 5, o_fall 76] else
  if p = 76 then [o_ild (.iload 5) 5, o_int (.iconst 2) 2, o_icmpge 20 99, o_ald (.aload_n 0) 0, o_ild (.iload_n 2) 2, o_ild (.iload_n 3) 3, o_ild (.iload 4) 4, o_ild (.iload 5) 5, o_cv (.invokevirtual 361) 3 kX3_bestOut 4 0, o_pop, o_inc 5 1, o_goto (-20) 76] else
  if p = 99 then [o_inc 4 1, o_goto (-36) 66] else
  if p = 105 then [o_inc 3 1, o_goto (-53) 55] else
  if p = 111 then [o_inc 2 (-1), o_goto (-65) 49] else
  if p = 117 then [o_vret] else
  []
def mX3_look : Nat → List tp_Op := fun p => 
  if p = 0 then [o_ald (.aload_n 0) 0, o_int (.iconst 0) 0, o_cv (.invokevirtual 316) 3 kX3_layNow 1 0, o_ald (.aload_n 0) 0, o_getf (.getfield 7) 3 3, o_int (.iconst 4) 4, o_lda .iaload [0, 20], o_ist (.istore_n 1) 1, o_int (.iconst 0) 0, o_ist (.istore_n 2) 2, o_fall 14] else
  if p = 14 then [o_ild (.iload_n 2) 2, o_ild (.iload_n 1) 1, o_icmpge 146 162, o_int (.iconst 0) 0, o_ist (.istore_n 3) 3, o_fall 21] else
  if p = 21 then [o_ild (.iload_n 3) 3, o_ald (.aload_n 0) 0, o_getf (.getfield 83) 3 2, o_icmpge 42 68, o_ald (.aload_n 0) 0, o_getf (.getfield 46) 3 29, o_int (.bipush 36) 36, o_ild (.iload_n 2) 2, o_imul, o_ild (.iload_n 3) 3, o_iadd, o_ald (.aload_n 0) 0, o_int (.bipush 36) 36, o_ild (.iload_n 2) 2, o_imul, o_ild (.iload_n 3) 3, o_ald (.aload_n 0) 0, o_ild (.iload_n 2) 2, o_cv (.invokevirtual 342) 3 kX3_windBefore 1 0, o_ald (.aload_n 0) 0, o_getf (.getfield 7) 3 3, o_int (.iconst 0) 0, o_lda .iaload [0, 20], o_ild (.iload_n 2) 2, o_iadd, o_cv (.invokevirtual 302) 3 kX3_pushCost 4 0, o_sta .iastore [0], o_inc 3 1, o_goto (-44) 21] else
  if p = 68 then [o_ald (.aload_n 0) 0, o_int (.bipush 36) 36, o_ild (.iload_n 2) 2, o_imul, o_int (.bipush 36) 36, o_ild (.iload_n 2) 2, o_int (.iconst 1) 1, o_iadd, o_imul, o_ald (.aload_n 0) 0, o_getf (.getfield 7) 3 3, o_int (.sipush 180) 180, o_ild (.iload_n 2) 2, o_iadd, o_lda .iaload [0, 20], o_ald (.aload_n 0) 0, o_getf (.getfield 7) 3 3, o_int (.iconst 0) 0, o_lda .iaload [0, 20], o_ild (.iload_n 2) 2, o_iadd, o_cv (.invokevirtual 335) 3 kX3_go 4 0, o_int (.iconst 0) 0, o_ist (.istore_n 3) 3, o_fall 102] else
  if p = 102 then [o_ild (.iload_n 3) 3, o_ald (.aload_n 0) 0, o_getf (.getfield 83) 3 2, o_icmpge 49 156, o_ald (.aload_n 0) 0, o_getf (.getfield 49) 3 30, o_int (.bipush 36) 36, o_ild (.iload_n 2) 2, o_imul, o_ild (.iload_n 3) 3, o_iadd, o_ald (.aload_n 0) 0, o_int (.bipush 36) 36, o_ild (.iload_n 2) 2, o_int (.iconst 1) 1, o_iadd, o_imul, o_ild (.iload_n 3) 3, o_ald (.aload_n 0) 0, o_getf (.getfield 7) 3 3, o_int (.sipush 180) 180, o_ild (.iload_n 2) 2, o_iadd, o_lda .iaload [0, 20], o_ald (.aload_n 0) 0, o_getf (.getfield 7) 3 3, o_int (.iconst 0) 0, o_lda .iaload [0, 20], o_ild (.iload_n 2) 2, o_iadd, o_cv (.invokevirtual 328) 3 kX3_nips 4 0, o_sta .bastore [1, 2], o_inc 3 1, o_goto (-51) 102] else
  if p = 156 then [o_inc 2 1, o_goto (-145) 14] else
  if p = 162 then [o_vret] else
  []
def mX3_windBefore : Nat → List tp_Op := fun p => 
  if p = 0 then [o_ild (.iload_n 1) 1, o_ifne 12 13, o_ald (.aload_n 0) 0, o_getf (.getfield 7) 3 3, o_int (.iconst 1) 1, o_lda .iaload [0, 20], o_goto 15 25] else
  if p = 13 then [o_ald (.aload_n 0) 0, o_getf (.getfield 7) 3 3, o_int (.sipush 180) 180, o_ild (.iload_n 1) 1, o_iadd, o_int (.iconst 1) 1, o_isub, o_lda .iaload [0, 20], o_fall 25] else
  if p = 25 then [o_iret 0] else
  []
def mX3_stateAt : Nat → List tp_Op := fun p => 
  if p = 0 then [o_ild (.iload_n 0) 0, o_int (.bipush 36) 36, o_imul, o_ild (.iload_n 1) 1, o_iadd, o_int (.bipush 100) 100, o_imul, o_ild (.iload_n 2) 2, o_iadd, o_int (.iconst 2) 2, o_imul, o_ild (.iload_n 3) 3, o_iadd, o_iret 0] else
  []
def mX3_bestOut : Nat → List tp_Op := fun p => 
  if p = 0 then [o_int (.iconst (-1)) (-1), o_ist (.istore 5) 5, o_int (.iconst (-1)) (-1), o_ist (.istore 6) 6, o_int (.iconst 0) 0, o_ist (.istore 7) 7, o_fall 9] else
  if p = 9 then [o_ild (.iload 7) 7, o_int (.bipush 8) 8, o_icmpge 50 63, o_ald (.aload_n 0) 0, o_ild (.iload_n 1) 1, o_ild (.iload_n 2) 2, o_ild (.iload_n 3) 3, o_ild (.iload 4) 4, o_ild (.iload 7) 7, o_cv (.invokevirtual 355) 3 kX3_outBy 5 0, o_ist (.istore 8) 8, o_ild (.iload 8) 8, o_iflt 26 57, o_ild (.iload 6) 6, o_iflt 13 49, o_ild (.iload 8) 8, o_ild (.iload 6) 6, o_icmplt 6 49, o_goto 11 57] else
  if p = 49 then [o_ild (.iload 7) 7, o_ist (.istore 5) 5, o_ild (.iload 8) 8, o_ist (.istore 6) 6, o_fall 57] else
  if p = 57 then [o_inc 7 1, o_goto (-51) 9] else
  if p = 63 then [o_ald (.aload_n 0) 0, o_getf (.getfield 53) 3 31, o_ild (.iload_n 1) 1, o_ild (.iload_n 2) 2, o_ild (.iload_n 3) 3, o_ild (.iload 4) 4, o_cs (.invokestatic 352) kX3_stateAt 4 0, o_ild (.iload 6) 6, o_sta .iastore [0], o_ild (.iload 5) 5, o_iret 0] else
  []
def mX3_outBy : Nat → List tp_Op := fun p => 
  if p = 0 then [o_ald (.aload_n 0) 0, o_ild (.iload_n 1) 1, o_ild (.iload_n 2) 2, o_ild (.iload_n 3) 3, o_ild (.iload 4) 4, o_ild (.iload 5) 5, o_cv (.invokevirtual 345) 3 kX3_costAhead 5 0, o_ist (.istore 6) 6, o_ild (.iload 6) 6, o_ifge 5 20, o_int (.iconst (-1)) (-1), o_iret 0] else
  if p = 20 then [o_ald (.aload_n 0) 0, o_ild (.iload_n 1) 1, o_ild (.iload_n 2) 2, o_ild (.iload 5) 5, o_cv (.invokevirtual 349) 3 kX3_cellAhead 3 0, o_ist (.istore 7) 7, o_ild (.iload 5) 5, o_int (.iconst 4) 4, o_icmpge 26 59, o_ald (.aload_n 0) 0, o_getf (.getfield 7) 3 3, o_int (.bipush 70) 70, o_ild (.iload 7) 7, o_iadd, o_lda .iaload [0, 20], o_int (.iconst 1) 1, o_icmpne 12 59, o_int (.sipush 199) 199, o_ild (.iload_n 3) 3, o_ild (.iload 6) 6, o_isub, o_isub, o_iret 0] else
  if p = 59 then [o_ald (.aload_n 0) 0, o_getf (.getfield 49) 3 30, o_int (.bipush 36) 36, o_ild (.iload_n 1) 1, o_imul, o_ild (.iload 7) 7, o_iadd, o_lda .baload [1, 2, 22], o_ifeq 5 76, o_int (.iconst (-1)) (-1), o_iret 0] else
  if p = 76 then [o_ald (.aload_n 0) 0, o_getf (.getfield 53) 3 31, o_ild (.iload_n 1) 1, o_int (.iconst 1) 1, o_iadd, o_ild (.iload 7) 7, o_ild (.iload_n 3) 3, o_ild (.iload 6) 6, o_isub, o_ild (.iload 5) 5, o_ild (.iload 4) 4, o_cs (.invokestatic 322) kX3_firesBehind 2 0, o_cs (.invokestatic 352) kX3_stateAt 4 0, o_lda .iaload [0, 20], o_ist (.istore 8) 8, o_ild (.iload 8) 8, o_ifge 7 111, o_int (.iconst (-1)) (-1), o_goto 8 116] else
  if p = 111 then [o_ild (.iload 8) 8, o_int (.bipush 100) 100, o_iadd, o_fall 116] else
  if p = 116 then [o_iret 0] else
  []
def mX3_costAhead : Nat → List tp_Op := fun p => 
  if p = 0 then [o_ild (.iload 5) 5, o_int (.bipush 6) 6, o_icmpne 5 9, o_int (.iconst 0) 0, o_iret 0] else
  if p = 9 then [o_ild (.iload 5) 5, o_int (.bipush 7) 7, o_icmpne 32 45, o_ild (.iload 4) 4, o_int (.iconst 1) 1, o_icmpne 24 43, o_ild (.iload_n 3) 3, o_ald (.aload_n 0) 0, o_getf (.getfield 7) 3 3, o_int (.bipush 11) 11, o_lda .iaload [0, 20], o_icmplt 13 43, o_ald (.aload_n 0) 0, o_getf (.getfield 7) 3 3, o_int (.bipush 11) 11, o_lda .iaload [0, 20], o_goto 4 44] else
  if p = 43 then [o_int (.iconst (-1)) (-1), o_fall 44] else
  if p = 44 then [o_iret 0] else
  if p = 45 then [o_ild (.iload 4) 4, o_int (.iconst 1) 1, o_icmpne 5 53, o_int (.iconst (-1)) (-1), o_iret 0] else
  if p = 53 then [o_ild (.iload 5) 5, o_int (.iconst 4) 4, o_icmpge 13 69, o_ald (.aload_n 0) 0, o_ild (.iload_n 2) 2, o_ild (.iload 5) 5, o_cv (.invokevirtual 271) 3 kX3_pushed 2 0, o_goto 4 70] else
  if p = 69 then [o_int (.iconst (-1)) (-1), o_fall 70] else
  if p = 70 then [o_ist (.istore 6) 6, o_ild (.iload 5) 5, o_int (.iconst 4) 4, o_icmpne 13 88, o_ald (.aload_n 0) 0, o_getf (.getfield 7) 3 3, o_int (.bipush 9) 9, o_lda .iaload [0, 20], o_goto 40 125] else
  if p = 88 then [o_ild (.iload 5) 5, o_int (.iconst 5) 5, o_icmpne 13 104, o_ald (.aload_n 0) 0, o_getf (.getfield 7) 3 3, o_int (.bipush 10) 10, o_lda .iaload [0, 20], o_goto 24 125] else
  if p = 104 then [o_ild (.iload 6) 6, o_ifge 7 113, o_int (.iconst (-1)) (-1), o_goto 15 125] else
  if p = 113 then [o_ald (.aload_n 0) 0, o_getf (.getfield 46) 3 29, o_int (.bipush 36) 36, o_ild (.iload_n 1) 1, o_imul, o_ild (.iload 6) 6, o_iadd, o_lda .iaload [0, 20], o_fall 125] else
  if p = 125 then [o_ist (.istore 7) 7, o_ild (.iload 7) 7, o_ild (.iload_n 3) 3, o_icmpgt 8 138, o_ild (.iload 7) 7, o_goto 4 139] else
  if p = 138 then [o_int (.iconst (-1)) (-1), o_fall 139] else
  if p = 139 then [o_iret 0] else
  []
def mX3_cellAhead : Nat → List tp_Op := fun p => 
  if p = 0 then [o_ild (.iload_n 3) 3, o_int (.iconst 4) 4, o_icmpge 12 14, o_ald (.aload_n 0) 0, o_ild (.iload_n 2) 2, o_ild (.iload_n 3) 3, o_cv (.invokevirtual 271) 3 kX3_pushed 2 0, o_goto 27 38] else
  if p = 14 then [o_ild (.iload_n 3) 3, o_int (.iconst 5) 5, o_icmpne 7 23, o_ild (.iload_n 2) 2, o_goto 18 38] else
  if p = 23 then [o_ald (.aload_n 0) 0, o_ild (.iload_n 2) 2, o_ald (.aload_n 0) 0, o_getf (.getfield 7) 3 3, o_int (.sipush 180) 180, o_ild (.iload_n 1) 1, o_iadd, o_lda .iaload [0, 20], o_cv (.invokevirtual 325) 3 kX3_drifted 2 0, o_fall 38] else
  if p = 38 then [o_iret 0] else
  []
def mX3_shipCell : Nat → List tp_Op := fun p => 
  if p = 0 then [o_ald (.aload_n 0) 0, o_getf (.getfield 7) 3 3, o_int (.iconst 0) 0, o_int (.iconst 0) 0, o_cs (.invokestatic 108) kX3_ofShip 2 0, o_lda .iaload [0, 20], o_iret 0] else
  []
def mX3_shipCoal : Nat → List tp_Op := fun p => 
  if p = 0 then [o_ald (.aload_n 0) 0, o_getf (.getfield 7) 3 3, o_int (.iconst 0) 0, o_int (.iconst 1) 1, o_cs (.invokestatic 108) kX3_ofShip 2 0, o_lda .iaload [0, 20], o_iret 0] else
  []
def mX3_shipBanked : Nat → List tp_Op := fun p => 
  if p = 0 then [o_ald (.aload_n 0) 0, o_getf (.getfield 7) 3 3, o_int (.iconst 0) 0, o_int (.iconst 2) 2, o_cs (.invokestatic 108) kX3_ofShip 2 0, o_lda .iaload [0, 20], o_iret 0] else
  []
def mX3_least : Nat → List tp_Op := fun p => 
  if p = 0 then [o_ald (.aload_n 0) 0, o_int (.iconst 0) 0, o_cv (.invokevirtual 313) 3 kX3_isFree 1 0, o_ifne 5 10, o_int (.iconst (-1)) (-1), o_iret 0] else
  if p = 10 then [o_ald (.aload_n 0) 0, o_cv (.invokevirtual 364) 3 kX3_findOut 0 0, o_int (.iconst 0) 0, o_ist (.istore_n 1) 1, o_fall 16] else
  if p = 16 then [o_ild (.iload_n 1) 1, o_int (.bipush 100) 100, o_icmpge 32 51, o_ald (.aload_n 0) 0, o_getf (.getfield 53) 3 31, o_int (.iconst 0) 0, o_ald (.aload_n 0) 0, o_cv (.invokevirtual 367) 3 kX3_shipCell 0 0, o_ild (.iload_n 1) 1, o_ald (.aload_n 0) 0, o_cv (.invokevirtual 373) 3 kX3_shipBanked 0 0, o_cs (.invokestatic 352) kX3_stateAt 4 0, o_lda .iaload [0, 20], o_iflt 5 45, o_ild (.iload_n 1) 1, o_iret 0] else
  if p = 45 then [o_inc 1 1, o_goto (-32) 16] else
  if p = 51 then [o_int (.iconst (-1)) (-1), o_iret 0] else
  []
def mX3_order : Nat → List tp_Op := fun p => 
  if p = 0 then [o_ild (.iload_n 1) 1, o_int (.iconst 0) 0, o_ald (.aload_n 0) 0, o_getf (.getfield 7) 3 3, o_int (.iconst 4) 4, o_lda .iaload [0, 20], o_int (.iconst 1) 1, o_isub, o_cs (.invokestatic 90) kX3_isIn 3 0, o_ifeq 10 23, o_ild (.iload_n 2) 2, o_cs (.invokestatic 310) kX3_isOrder 1 0, o_ifne 5 25, o_fall 23] else
  if p = 23 then [o_int (.iconst (-1)) (-1), o_iret 0] else
  if p = 25 then [o_ald (.aload_n 0) 0, o_getf (.getfield 7) 3 3, o_int (.sipush 195) 195, o_ild (.iload_n 1) 1, o_iadd, o_ild (.iload_n 2) 2, o_sta .iastore [0], o_ald (.aload_n 0) 0, o_getf (.getfield 7) 3 3, o_int (.iconst 5) 5, o_ild (.iload_n 1) 1, o_int (.iconst 1) 1, o_iadd, o_ald (.aload_n 0) 0, o_getf (.getfield 7) 3 3, o_int (.iconst 5) 5, o_lda .iaload [0, 20], o_icmple 9 59, o_ild (.iload_n 1) 1, o_int (.iconst 1) 1, o_iadd, o_goto 9 65] else
  if p = 59 then [o_ald (.aload_n 0) 0, o_getf (.getfield 7) 3 3, o_int (.iconst 5) 5, o_lda .iaload [0, 20], o_fall 65] else
  if p = 65 then [o_sta .iastore [0], o_ald (.aload_n 0) 0, o_getf (.getfield 7) 3 3, o_int (.iconst 5) 5, o_lda .iaload [0, 20], o_iret 0] else
  []
def mX3_told : Nat → List tp_Op := fun p => 
  if p = 0 then [o_ild (.iload_n 1) 1, o_int (.iconst (-1)) (-1), o_ald (.aload_n 0) 0, o_getf (.getfield 7) 3 3, o_int (.iconst 5) 5, o_lda .iaload [0, 20], o_int (.iconst 1) 1, o_isub, o_cs (.invokestatic 90) kX3_isIn 3 0, o_ifne 5 18, o_int (.iconst (-1)) (-1), o_iret 0] else
  if p = 18 then [o_ald (.aload_n 0) 0, o_cv (.invokevirtual 379) 3 kX3_follow 0 0, o_ild (.iload_n 1) 1, o_ifge 10 33, o_ald (.aload_n 0) 0, o_getf (.getfield 376) 3 32, o_goto 23 53] else
  if p = 33 then [o_ild (.iload_n 1) 1, o_ald (.aload_n 0) 0, o_getf (.getfield 376) 3 32, o_icmpge 14 52, o_ald (.aload_n 0) 0, o_getf (.getfield 56) 3 33, o_ild (.iload_n 1) 1, o_int (.iconst 1) 1, o_iadd, o_lda .iaload [0, 20], o_goto 4 53] else
  if p = 52 then [o_int (.iconst (-1)) (-1), o_fall 53] else
  if p = 53 then [o_iret 0] else
  []
def mX3_follow : Nat → List tp_Op := fun p => 
  if p = 0 then [o_ald (.aload_n 0) 0, o_cv (.invokevirtual 358) 3 kX3_look 0 0, o_ald (.aload_n 0) 0, o_int (.iconst 0) 0, o_putf (.putfield 376) 3 32 0, o_ald (.aload_n 0) 0, o_getf (.getfield 56) 3 33, o_int (.iconst 0) 0, o_ald (.aload_n 0) 0, o_cv (.invokevirtual 367) 3 kX3_shipCell 0 0, o_sta .iastore [0], o_ald (.aload_n 0) 0, o_getf (.getfield 59) 3 34, o_int (.iconst 0) 0, o_ald (.aload_n 0) 0, o_cv (.invokevirtual 370) 3 kX3_shipCoal 0 0, o_sta .iastore [0], o_ald (.aload_n 0) 0, o_getf (.getfield 62) 3 35, o_int (.iconst 0) 0, o_ald (.aload_n 0) 0, o_cv (.invokevirtual 373) 3 kX3_shipBanked 0 0, o_sta .iastore [0], o_ald (.aload_n 0) 0, o_int (.iconst 0) 0, o_cv (.invokevirtual 313) 3 kX3_isFree 1 0, o_ist (.istore_n 1) 1, o_fall 45] else
  if p = 45 then [o_ild (.iload_n 1) 1, o_ifeq 194 240, o_ald (.aload_n 0) 0, o_getf (.getfield 376) 3 32, o_ald (.aload_n 0) 0, o_getf (.getfield 7) 3 3, o_int (.iconst 5) 5, o_lda .iaload [0, 20], o_icmpge 181 240, o_ald (.aload_n 0) 0, o_getf (.getfield 376) 3 32, o_ist (.istore_n 2) 2, o_ald (.aload_n 0) 0, o_getf (.getfield 7) 3 3, o_int (.sipush 195) 195, o_ild (.iload_n 2) 2, o_iadd, o_lda .iaload [0, 20], o_ist (.istore_n 3) 3, o_ald (.aload_n 0) 0, o_ild (.iload_n 2) 2, o_ald (.aload_n 0) 0, o_getf (.getfield 56) 3 33, o_ild (.iload_n 2) 2, o_lda .iaload [0, 20], o_ald (.aload_n 0) 0, o_getf (.getfield 59) 3 34, o_ild (.iload_n 2) 2, o_lda .iaload [0, 20], o_ald (.aload_n 0) 0, o_getf (.getfield 62) 3 35, o_ild (.iload_n 2) 2, o_lda .iaload [0, 20], o_ild (.iload_n 3) 3, o_cv (.invokevirtual 345) 3 kX3_costAhead 5 0, o_ist (.istore 4) 4, o_ild (.iload 4) 4, o_ifge 7 113, o_int (.iconst (-1)) (-1), o_goto 15 125] else
  if p = 113 then [o_ald (.aload_n 0) 0, o_ild (.iload_n 2) 2, o_ald (.aload_n 0) 0, o_getf (.getfield 56) 3 33, o_ild (.iload_n 2) 2, o_lda .iaload [0, 20], o_ild (.iload_n 3) 3, o_cv (.invokevirtual 349) 3 kX3_cellAhead 3 0, o_fall 125] else
  if p = 125 then [o_ist (.istore 5) 5, o_ild (.iload 5) 5, o_iflt 41 170, o_ild (.iload_n 3) 3, o_int (.iconst 4) 4, o_icmpge 17 151, o_ald (.aload_n 0) 0, o_getf (.getfield 7) 3 3, o_int (.bipush 70) 70, o_ild (.iload 5) 5, o_iadd, o_lda .iaload [0, 20], o_int (.iconst 1) 1, o_icmpeq 22 170, o_fall 151] else
  if p = 151 then [o_ald (.aload_n 0) 0, o_getf (.getfield 49) 3 30, o_int (.bipush 36) 36, o_ild (.iload_n 2) 2, o_imul, o_ild (.iload 5) 5, o_iadd, o_lda .baload [1, 2, 22], o_ifne 7 170, o_int (.iconst 1) 1, o_goto 4 171] else
  if p = 170 then [o_int (.iconst 0) 0, o_fall 171] else
  if p = 171 then [o_ist (.istore_n 1) 1, o_ild (.iload_n 1) 1, o_ifne 6 179, o_goto (-131) 45] else
  if p = 179 then [o_ald (.aload_n 0) 0, o_dup, o_getf (.getfield 376) 3 32, o_int (.iconst 1) 1, o_iadd, o_putf (.putfield 376) 3 32 0, o_ald (.aload_n 0) 0, o_getf (.getfield 56) 3 33, o_ald (.aload_n 0) 0, o_getf (.getfield 376) 3 32, o_ild (.iload 5) 5, o_sta .iastore [0], o_ald (.aload_n 0) 0, o_getf (.getfield 59) 3 34, o_ald (.aload_n 0) 0, o_getf (.getfield 376) 3 32, o_ald (.aload_n 0) 0, o_getf (.getfield 59) 3 34, o_ild (.iload_n 2) 2, o_lda .iaload [0, 20], o_ild (.iload 4) 4, o_isub, o_sta .iastore [0], o_ald (.aload_n 0) 0, o_getf (.getfield 62) 3 35, o_ald (.aload_n 0) 0, o_getf (.getfield 376) 3 32, o_ild (.iload_n 3) 3, o_ald (.aload_n 0) 0, o_getf (.getfield 62) 3 35, o_ild (.iload_n 2) 2, o_lda .iaload [0, 20], o_cs (.invokestatic 322) kX3_firesBehind 2 0, o_sta .iastore [0], o_goto (-192) 45] else
  if p = 240 then [o_vret] else
  []
def mX3_home : Nat → List tp_Op := fun p => 
  if p = 0 then [o_ald (.aload_n 0) 0, o_ild (.iload_n 1) 1, o_cv (.invokevirtual 98) 3 kX3_isCell 1 0, o_ifne 5 10, o_int (.iconst 0) 0, o_iret 1] else
  if p = 10 then [o_ald (.aload_n 0) 0, o_getf (.getfield 7) 3 3, o_int (.bipush 6) 6, o_ild (.iload_n 1) 1, o_sta .iastore [0], o_int (.iconst 1) 1, o_iret 1] else
  []
def mX3_last : Nat → List tp_Op := fun p => 
  if p = 0 then [o_ald (.aload_n 0) 0, o_int (.iconst 0) 0, o_cv (.invokevirtual 313) 3 kX3_isFree 1 0, o_ifne 5 10, o_int (.iconst (-1)) (-1), o_iret 0] else
  if p = 10 then [o_ald (.aload_n 0) 0, o_cv (.invokevirtual 379) 3 kX3_follow 0 0, o_ald (.aload_n 0) 0, o_getf (.getfield 7) 3 3, o_int (.iconst 4) 4, o_lda .iaload [0, 20], o_ist (.istore_n 1) 1, o_fall 21] else
  if p = 21 then [o_ild (.iload_n 1) 1, o_iflt 76 98, o_int (.iconst 0) 0, o_ist (.istore_n 2) 2, o_fall 27] else
  if p = 27 then [o_ild (.iload_n 2) 2, o_ald (.aload_n 0) 0, o_getf (.getfield 83) 3 2, o_icmpge 60 92, o_int (.iconst 0) 0, o_ist (.istore_n 3) 3, o_fall 37] else
  if p = 37 then [o_ild (.iload_n 3) 3, o_int (.bipush 100) 100, o_icmpge 46 86, o_int (.iconst 0) 0, o_ist (.istore 4) 4, o_fall 46] else
  if p = 46 then [o_ild (.iload 4) 4, o_int (.iconst 2) 2, o_icmpge 31 80, o_ald (.aload_n 0) 0, o_getf (.getfield 65) 3 36, o_ild (.iload_n 1) 1, o_ild (.iload_n 2) 2, o_ild (.iload_n 3) 3, o_ild (.iload 4) 4, o_cs (.invokestatic 352) kX3_stateAt 4 0, o_ald (.aload_n 0) 0, o_ild (.iload_n 1) 1, o_ild (.iload_n 2) 2, o_ild (.iload_n 3) 3, o_ild (.iload 4) 4, o_cv (.invokevirtual 382) 3 kX3_canHome 4 0, o_sta .bastore [1, 2], o_inc 4 1, o_goto (-31) 46] else
  if p = 80 then [o_inc 3 1, o_goto (-46) 37] else
  if p = 86 then [o_inc 2 1, o_goto (-62) 27] else
  if p = 92 then [o_inc 1 (-1), o_goto (-74) 21] else
  if p = 98 then [o_ald (.aload_n 0) 0, o_getf (.getfield 376) 3 32, o_ist (.istore_n 1) 1, o_fall 103] else
  if p = 103 then [o_ild (.iload_n 1) 1, o_iflt 41 145, o_ald (.aload_n 0) 0, o_getf (.getfield 65) 3 36, o_ild (.iload_n 1) 1, o_ald (.aload_n 0) 0, o_getf (.getfield 56) 3 33, o_ild (.iload_n 1) 1, o_lda .iaload [0, 20], o_ald (.aload_n 0) 0, o_getf (.getfield 59) 3 34, o_ild (.iload_n 1) 1, o_lda .iaload [0, 20], o_ald (.aload_n 0) 0, o_getf (.getfield 62) 3 35, o_ild (.iload_n 1) 1, o_lda .iaload [0, 20], o_cs (.invokestatic 352) kX3_stateAt 4 0, o_lda .baload [1, 2, 22], o_ifeq 5 139, o_ild (.iload_n 1) 1, o_iret 0] else
  if p = 139 then [o_inc 1 (-1), o_goto (-39) 103] else
  if p = 145 then [o_int (.iconst (-1)) (-1), o_iret 0] else
  []
def mX3_canHome : Nat → List tp_Op := fun p => 
  if p = 0 then [o_ild (.iload_n 2) 2, o_ald (.aload_n 0) 0, o_getf (.getfield 7) 3 3, o_int (.bipush 6) 6, o_lda .iaload [0, 20], o_icmpne 5 13, o_int (.iconst 1) 1, o_iret 1] else
  if p = 13 then [o_int (.iconst 0) 0, o_ist (.istore 5) 5, o_fall 16] else
  if p = 16 then [o_ild (.iload 5) 5, o_int (.bipush 8) 8, o_icmpge 117 137, o_ild (.iload_n 1) 1, o_ald (.aload_n 0) 0, o_getf (.getfield 7) 3 3, o_int (.iconst 4) 4, o_lda .iaload [0, 20], o_icmpge 107 137, o_ald (.aload_n 0) 0, o_ild (.iload_n 1) 1, o_ild (.iload_n 2) 2, o_ild (.iload_n 3) 3, o_ild (.iload 4) 4, o_ild (.iload 5) 5, o_cv (.invokevirtual 345) 3 kX3_costAhead 5 0, o_ist (.istore 6) 6, o_ild (.iload 6) 6, o_ifge 6 54, o_goto 80 131] else
  if p = 54 then [o_ald (.aload_n 0) 0, o_ild (.iload_n 1) 1, o_ild (.iload_n 2) 2, o_ild (.iload 5) 5, o_cv (.invokevirtual 349) 3 kX3_cellAhead 3 0, o_ist (.istore 7) 7, o_ild (.iload 5) 5, o_int (.iconst 4) 4, o_icmpge 17 84, o_ald (.aload_n 0) 0, o_getf (.getfield 7) 3 3, o_int (.bipush 70) 70, o_ild (.iload 7) 7, o_iadd, o_lda .iaload [0, 20], o_int (.iconst 1) 1, o_icmpeq 50 131, o_fall 84] else
  if p = 84 then [o_ald (.aload_n 0) 0, o_getf (.getfield 49) 3 30, o_int (.bipush 36) 36, o_ild (.iload_n 1) 1, o_imul, o_ild (.iload 7) 7, o_iadd, o_lda .baload [1, 2, 22], o_ifeq 6 102, o_goto 32 131] else
  if p = 102 then [o_ald (.aload_n 0) 0, o_getf (.getfield 65) 3 36, o_ild (.iload_n 1) 1, o_int (.iconst 1) 1, o_iadd, o_ild (.iload 7) 7, o_ild (.iload_n 3) 3, o_ild (.iload 6) 6, o_isub, o_ild (.iload 5) 5, o_ild (.iload 4) 4, o_cs (.invokestatic 322) kX3_firesBehind 2 0, o_cs (.invokestatic 352) kX3_stateAt 4 0, o_lda .baload [1, 2, 22], o_ifeq 5 131, o_int (.iconst 1) 1, o_iret 1] else
  if p = 131 then [o_inc 5 1, o_goto (-118) 16] else
  if p = 137 then [o_int (.iconst 0) 0, o_iret 1] else
  []
def mX3_walk : Nat → List tp_Op := fun p => 
  if p = 0 then [o_ald (.aload_n 0) 0, o_int (.iconst 0) 0, o_cv (.invokevirtual 313) 3 kX3_isFree 1 0, o_ifeq 17 22, o_ild (.iload_n 1) 1, o_int (.iconst 0) 0, o_ald (.aload_n 0) 0, o_getf (.getfield 7) 3 3, o_int (.iconst 5) 5, o_lda .iaload [0, 20], o_cs (.invokestatic 90) kX3_isIn 3 0, o_ifne 5 24, o_fall 22] else
  if p = 22 then [o_int (.iconst (-1)) (-1), o_iret 0] else
  if p = 24 then [o_ald (.aload_n 0) 0, o_cv (.invokevirtual 379) 3 kX3_follow 0 0, o_ild (.iload_n 1) 1, o_ald (.aload_n 0) 0, o_getf (.getfield 376) 3 32, o_icmpgt 17 50, o_ald (.aload_n 0) 0, o_ald (.aload_n 0) 0, o_getf (.getfield 56) 3 33, o_ild (.iload_n 1) 1, o_lda .iaload [0, 20], o_ild (.iload_n 1) 1, o_cv (.invokevirtual 391) 3 kX3_walkFrom 2 0, o_goto 4 51] else
  if p = 50 then [o_int (.iconst (-1)) (-1), o_fall 51] else
  if p = 51 then [o_iret 0] else
  []
def mX3_walkFrom : Nat → List tp_Op := fun p => 
  if p = 0 then [o_ald (.aload_n 0) 0, o_getf (.getfield 7) 3 3, o_int (.bipush 110) 110, o_ild (.iload_n 1) 1, o_iadd, o_lda .iaload [0, 20], o_int (.iconst 1) 1, o_icmpne 5 15, o_int (.iconst 0) 0, o_iret 0] else
  if p = 15 then [o_int (.iconst 0) 0, o_ist (.istore_n 3) 3, o_fall 17] else
  if p = 17 then [o_ild (.iload_n 3) 3, o_ald (.aload_n 0) 0, o_getf (.getfield 83) 3 2, o_icmpge 25 47, o_ald (.aload_n 0) 0, o_getf (.getfield 68) 3 37, o_ild (.iload_n 3) 3, o_ild (.iload_n 3) 3, o_ild (.iload_n 1) 1, o_icmpne 7 39, o_int (.iconst 1) 1, o_goto 4 40] else
  if p = 39 then [o_int (.iconst 0) 0, o_fall 40] else
  if p = 40 then [o_sta .bastore [1, 2], o_inc 3 1, o_goto (-27) 17] else
  if p = 47 then [o_ild (.iload_n 2) 2, o_ist (.istore_n 3) 3, o_fall 49] else
  if p = 49 then [o_ild (.iload_n 3) 3, o_ald (.aload_n 0) 0, o_getf (.getfield 7) 3 3, o_int (.iconst 4) 4, o_lda .iaload [0, 20], o_icmpge 168 224, o_ald (.aload_n 0) 0, o_ild (.iload_n 3) 3, o_cv (.invokevirtual 388) 3 kX3_walkOn 1 0, o_int (.iconst 0) 0, o_ist (.istore 4) 4, o_fall 67] else
  if p = 67 then [o_ild (.iload 4) 4, o_ald (.aload_n 0) 0, o_getf (.getfield 83) 3 2, o_icmpge 47 120, o_ald (.aload_n 0) 0, o_getf (.getfield 71) 3 38, o_ild (.iload 4) 4, o_lda .baload [1, 2, 22], o_ifeq 23 106, o_ald (.aload_n 0) 0, o_getf (.getfield 7) 3 3, o_int (.bipush 110) 110, o_ild (.iload 4) 4, o_iadd, o_lda .iaload [0, 20], o_int (.iconst 1) 1, o_icmpne 9 106, o_ild (.iload_n 3) 3, o_ild (.iload_n 2) 2, o_isub, o_int (.iconst 1) 1, o_iadd, o_iret 0] else
  if p = 106 then [o_ald (.aload_n 0) 0, o_getf (.getfield 68) 3 37, o_ild (.iload 4) 4, o_int (.iconst 0) 0, o_sta .bastore [1, 2], o_inc 4 1, o_goto (-50) 67] else
  if p = 120 then [o_int (.iconst 0) 0, o_ist (.istore 4) 4, o_fall 123] else
  if p = 123 then [o_ild (.iload 4) 4, o_ald (.aload_n 0) 0, o_getf (.getfield 83) 3 2, o_icmpge 41 170, o_ald (.aload_n 0) 0, o_getf (.getfield 71) 3 38, o_ild (.iload 4) 4, o_lda .baload [1, 2, 22], o_ifeq 25 164, o_ald (.aload_n 0) 0, o_getf (.getfield 68) 3 37, o_ald (.aload_n 0) 0, o_ild (.iload 4) 4, o_ald (.aload_n 0) 0, o_getf (.getfield 7) 3 3, o_int (.sipush 180) 180, o_ild (.iload_n 3) 3, o_iadd, o_lda .iaload [0, 20], o_cv (.invokevirtual 325) 3 kX3_drifted 2 0, o_int (.iconst 1) 1, o_sta .bastore [1, 2], o_fall 164] else
  if p = 164 then [o_inc 4 1, o_goto (-44) 123] else
  if p = 170 then [o_int (.iconst 0) 0, o_ist (.istore 4) 4, o_fall 173] else
  if p = 173 then [o_ild (.iload 4) 4, o_ald (.aload_n 0) 0, o_getf (.getfield 83) 3 2, o_icmpge 39 218, o_ald (.aload_n 0) 0, o_getf (.getfield 68) 3 37, o_ild (.iload 4) 4, o_lda .baload [1, 2, 22], o_ifeq 23 212, o_ald (.aload_n 0) 0, o_getf (.getfield 7) 3 3, o_int (.bipush 110) 110, o_ild (.iload 4) 4, o_iadd, o_lda .iaload [0, 20], o_int (.iconst 1) 1, o_icmpne 9 212, o_ild (.iload_n 3) 3, o_ild (.iload_n 2) 2, o_isub, o_int (.iconst 1) 1, o_iadd, o_iret 0] else
  if p = 212 then [o_inc 4 1, o_goto (-42) 173] else
  if p = 218 then [o_inc 3 1, o_goto (-172) 49] else
  if p = 224 then [o_int (.iconst (-1)) (-1), o_iret 0] else
  []
def mX3_walkOn : Nat → List tp_Op := fun p => 
  if p = 0 then [o_int (.iconst 0) 0, o_ist (.istore_n 2) 2, o_fall 2] else
  if p = 2 then [o_ild (.iload_n 2) 2, o_ald (.aload_n 0) 0, o_getf (.getfield 83) 3 2, o_icmpge 21 28, o_ald (.aload_n 0) 0, o_getf (.getfield 71) 3 38, o_ild (.iload_n 2) 2, o_ald (.aload_n 0) 0, o_getf (.getfield 68) 3 37, o_ild (.iload_n 2) 2, o_lda .baload [1, 2, 22], o_sta .bastore [1, 2], o_inc 2 1, o_goto (-23) 2] else
  if p = 28 then [o_int (.iconst 0) 0, o_ist (.istore_n 2) 2, o_fall 30] else
  if p = 30 then [o_ild (.iload_n 2) 2, o_ald (.aload_n 0) 0, o_getf (.getfield 83) 3 2, o_icmpge 102 137, o_ald (.aload_n 0) 0, o_getf (.getfield 68) 3 37, o_ild (.iload_n 2) 2, o_lda .baload [1, 2, 22], o_ifne 87 131, o_ald (.aload_n 0) 0, o_int (.bipush 36) 36, o_ild (.iload_n 1) 1, o_imul, o_ild (.iload_n 2) 2, o_ald (.aload_n 0) 0, o_ild (.iload_n 1) 1, o_cv (.invokevirtual 342) 3 kX3_windBefore 1 0, o_ald (.aload_n 0) 0, o_getf (.getfield 7) 3 3, o_int (.iconst 0) 0, o_lda .iaload [0, 20], o_ild (.iload_n 1) 1, o_iadd, o_cv (.invokevirtual 385) 3 kX3_walks 4 0, o_ifne 6 75, o_goto 59 131] else
  if p = 75 then [o_int (.iconst 0) 0, o_ist (.istore_n 3) 3, o_fall 77] else
  if p = 77 then [o_ild (.iload_n 3) 3, o_int (.iconst 4) 4, o_icmpge 52 131, o_ald (.aload_n 0) 0, o_ild (.iload_n 2) 2, o_ild (.iload_n 3) 3, o_cv (.invokevirtual 271) 3 kX3_pushed 2 0, o_ist (.istore 4) 4, o_ald (.aload_n 0) 0, o_getf (.getfield 71) 3 38, o_ild (.iload_n 2) 2, o_ald (.aload_n 0) 0, o_getf (.getfield 71) 3 38, o_ild (.iload_n 2) 2, o_lda .baload [1, 2, 22], o_ifne 18 119, o_ild (.iload 4) 4, o_iflt 17 123, o_ald (.aload_n 0) 0, o_getf (.getfield 68) 3 37, o_ild (.iload 4) 4, o_lda .baload [1, 2, 22], o_ifeq 7 123, o_fall 119] else
  if p = 119 then [o_int (.iconst 1) 1, o_goto 4 124] else
  if p = 123 then [o_int (.iconst 0) 0, o_fall 124] else
  if p = 124 then [o_sta .bastore [1, 2], o_inc 3 1, o_goto (-51) 77] else
  if p = 131 then [o_inc 2 1, o_goto (-104) 30] else
  if p = 137 then [o_vret] else
  []
def mX3_walks : Nat → List tp_Op := fun p => 
  if p = 0 then [o_ald (.aload_n 0) 0, o_ild (.iload_n 1) 1, o_ild (.iload_n 2) 2, o_ild (.iload_n 3) 3, o_ild (.iload 4) 4, o_cv (.invokevirtual 288) 3 kX3_nameCell 4 0, o_ald (.aload_n 0) 0, o_int (.iconst 3) 3, o_ald (.aload_n 0) 0, o_getf (.getfield 43) 3 28, o_ild (.iload_n 1) 1, o_ild (.iload_n 2) 2, o_iadd, o_lda .iaload [0, 20], o_int (.bipush 10) 10, o_icmplt 7 28, o_int (.iconst 1) 1, o_goto 4 29] else
  if p = 28 then [o_int (.iconst 0) 0, o_fall 29] else
  if p = 29 then [o_cv (.invokevirtual 292) 3 kX3_isAny 2 0, o_iret 1] else
  []
def mX3_leave : Nat → List tp_Op := fun p => 
  if p = 0 then [o_ald (.aload_n 0) 0, o_int (.iconst 0) 0, o_cv (.invokevirtual 313) 3 kX3_isFree 1 0, o_ifne 5 10, o_int (.iconst (-1)) (-1), o_iret 0] else
  if p = 10 then [o_ald (.aload_n 0) 0, o_cv (.invokevirtual 379) 3 kX3_follow 0 0, o_ald (.aload_n 0) 0, o_getf (.getfield 376) 3 32, o_ist (.istore_n 1) 1, o_fall 19] else
  if p = 19 then [o_ild (.iload_n 1) 1, o_iflt 25 45, o_ald (.aload_n 0) 0, o_ald (.aload_n 0) 0, o_getf (.getfield 56) 3 33, o_ild (.iload_n 1) 1, o_lda .iaload [0, 20], o_ild (.iload_n 1) 1, o_cv (.invokevirtual 391) 3 kX3_walkFrom 2 0, o_iflt 5 39, o_ild (.iload_n 1) 1, o_iret 0] else
  if p = 39 then [o_inc 1 (-1), o_goto (-23) 19] else
  if p = 45 then [o_int (.iconst (-1)) (-1), o_iret 0] else
  []
def mX3_winter : Nat → List tp_Op := fun p => 
  if p = 0 then [o_ild (.iload_n 1) 1, o_int (.iconst 0) 0, o_int (.iconst 1) 1, o_cs (.invokestatic 90) kX3_isIn 3 0, o_ifne 21 27, o_ild (.iload_n 1) 1, o_int (.bipush 10) 10, o_int (.bipush 9) 9, o_ald (.aload_n 0) 0, o_getf (.getfield 83) 3 2, o_iadd, o_cs (.invokestatic 90) kX3_isIn 3 0, o_ifne 5 27, o_int (.iconst (-1)) (-1), o_iret 0] else
  if p = 27 then [o_ald (.aload_n 0) 0, o_cv (.invokevirtual 358) 3 kX3_look 0 0, o_ild (.iload_n 1) 1, o_int (.iconst 1) 1, o_icmple 12 45, o_ald (.aload_n 0) 0, o_ild (.iload_n 1) 1, o_int (.bipush 10) 10, o_isub, o_cv (.invokevirtual 394) 3 kX3_winterAt 1 0, o_iret 0] else
  if p = 45 then [o_int (.iconst 0) 0, o_ist (.istore_n 2) 2, o_int (.iconst 1) 1, o_ist (.istore_n 3) 3, o_fall 49] else
  if p = 49 then [o_ild (.iload_n 3) 3, o_ald (.aload_n 0) 0, o_getf (.getfield 83) 3 2, o_icmpge 24 78, o_ald (.aload_n 0) 0, o_ild (.iload_n 3) 3, o_cv (.invokevirtual 394) 3 kX3_winterAt 1 0, o_ald (.aload_n 0) 0, o_ild (.iload_n 2) 2, o_cv (.invokevirtual 394) 3 kX3_winterAt 1 0, o_icmpge 5 72, o_ild (.iload_n 3) 3, o_ist (.istore_n 2) 2, o_fall 72] else
  if p = 72 then [o_inc 3 1, o_goto (-26) 49] else
  if p = 78 then [o_ild (.iload_n 1) 1, o_ifne 7 86, o_ild (.iload_n 2) 2, o_goto 8 91] else
  if p = 86 then [o_ald (.aload_n 0) 0, o_ild (.iload_n 2) 2, o_cv (.invokevirtual 394) 3 kX3_winterAt 1 0, o_fall 91] else
  if p = 91 then [o_iret 0] else
  []
def mX3_winterAt : Nat → List tp_Op := fun p => 
  if p = 0 then [o_ild (.iload_n 1) 1, o_ist (.istore_n 2) 2, o_int (.iconst 0) 0, o_ist (.istore_n 3) 3, o_int (.iconst 0) 0, o_ist (.istore 4) 4, o_fall 7] else
  if p = 7 then [o_ild (.iload 4) 4, o_ald (.aload_n 0) 0, o_getf (.getfield 7) 3 3, o_int (.iconst 4) 4, o_lda .iaload [0, 20], o_icmpge 49 64, o_ald (.aload_n 0) 0, o_ild (.iload_n 2) 2, o_ald (.aload_n 0) 0, o_getf (.getfield 7) 3 3, o_int (.sipush 180) 180, o_ild (.iload 4) 4, o_iadd, o_lda .iaload [0, 20], o_cv (.invokevirtual 325) 3 kX3_drifted 2 0, o_ist (.istore_n 2) 2, o_ild (.iload_n 3) 3, o_ald (.aload_n 0) 0, o_getf (.getfield 49) 3 30, o_int (.bipush 36) 36, o_ild (.iload 4) 4, o_imul, o_ild (.iload_n 2) 2, o_iadd, o_lda .baload [1, 2, 22], o_ifeq 7 55, o_int (.iconst 1) 1, o_goto 4 56] else
  if p = 55 then [o_int (.iconst 0) 0, o_fall 56] else
  if p = 56 then [o_iadd, o_ist (.istore_n 3) 3, o_inc 4 1, o_goto (-54) 7] else
  if p = 64 then [o_ild (.iload_n 3) 3, o_iret 0] else
  []
def mX3_surest : Nat → List tp_Op := fun p => 
  if p = 0 then [o_ild (.iload_n 1) 1, o_int (.iconst 1) 1, o_int (.iconst 3) 3, o_cs (.invokestatic 90) kX3_isIn 3 0, o_ifeq 12 18, o_ild (.iload_n 2) 2, o_int (.iconst 0) 0, o_int (.iconst 2) 2, o_cs (.invokestatic 90) kX3_isIn 3 0, o_ifne 5 20, o_fall 18] else
  if p = 18 then [o_int (.iconst (-1)) (-1), o_iret 0] else
  if p = 20 then [o_ald (.aload_n 0) 0, o_int (.iconst 0) 0, o_cv (.invokevirtual 313) 3 kX3_isFree 1 0, o_ifne 59 84, o_ild (.iload_n 2) 2, o_int (.iconst 1) 1, o_icmpne 7 37, o_int (.iconst (-1)) (-1), o_goto 49 83] else
  if p = 37 then [o_ild (.iload_n 2) 2, o_int (.iconst 2) 2, o_icmpeq 17 56, o_ald (.aload_n 0) 0, o_getf (.getfield 7) 3 3, o_int (.iconst 0) 0, o_int (.iconst 3) 3, o_cs (.invokestatic 108) kX3_ofShip 2 0, o_lda .iaload [0, 20], o_int (.iconst 2) 2, o_icmpne 7 60, o_fall 56] else
  if p = 56 then [o_int (.iconst 0) 0, o_goto 26 83] else
  if p = 60 then [o_ild (.iload_n 1) 1, o_int (.iconst 1) 1, o_icmpne 8 70, o_int (.bipush 10) 10, o_goto 16 83] else
  if p = 70 then [o_ild (.iload_n 1) 1, o_int (.iconst 2) 2, o_icmpne 8 80, o_int (.bipush 100) 100, o_goto 6 83] else
  if p = 80 then [o_int (.sipush 1000) 1000, o_fall 83] else
  if p = 83 then [o_iret 0] else
  if p = 84 then [o_ald (.aload_n 0) 0, o_ild (.iload_n 1) 1, o_cv (.invokevirtual 420) 3 kX3_hope 1 0, o_ist (.istore_n 3) 3, o_ald (.aload_n 0) 0, o_getf (.getfield 411) 3 39, o_ist (.istore 4) 4, o_ild (.iload_n 2) 2, o_ifne 7 104, o_ild (.iload_n 3) 3, o_goto 20 121] else
  if p = 104 then [o_ild (.iload_n 2) 2, o_int (.iconst 1) 1, o_icmpne 8 114, o_ild (.iload 4) 4, o_goto 10 121] else
  if p = 114 then [o_ald (.aload_n 0) 0, o_ild (.iload_n 1) 1, o_cv (.invokevirtual 423) 3 kX3_known 1 0, o_ild (.iload_n 3) 3, o_isub, o_fall 121] else
  if p = 121 then [o_iret 0] else
  []
def mX3_hope : Nat → List tp_Op := fun p => 
  if p = 0 then [o_int (.iconst (-1)) (-1), o_ist (.istore_n 2) 2, o_ald (.aload_n 0) 0, o_int (.iconst (-1)) (-1), o_putf (.putfield 411) 3 39 0, o_ald (.aload_n 0) 0, o_int (.sipush 504) 504, o_cv (.invokevirtual 316) 3 kX3_layNow 1 0, o_int (.iconst 0) 0, o_ist (.istore_n 3) 3, o_fall 16] else
  if p = 16 then [o_ild (.iload_n 3) 3, o_int (.bipush 8) 8, o_icmpge 98 117, o_ald (.aload_n 0) 0, o_int (.iconst 0) 0, o_int (.sipush 504) 504, o_ild (.iload_n 3) 3, o_cv (.invokevirtual 319) 3 kX3_costOf 3 0, o_ist (.istore 4) 4, o_ild (.iload 4) 4, o_ifge 6 41, o_goto 73 111] else
  if p = 41 then [o_ald (.aload_n 0) 0, o_ald (.aload_n 0) 0, o_cv (.invokevirtual 367) 3 kX3_shipCell 0 0, o_ild (.iload_n 3) 3, o_cv (.invokevirtual 397) 3 kX3_isWayOut 2 0, o_ifeq 29 79, o_ild (.iload_n 1) 1, o_int (.iconst 1) 1, o_icmpne 8 63, o_int (.bipush 10) 10, o_goto 32 92] else
  if p = 63 then [o_ild (.iload_n 1) 1, o_int (.iconst 2) 2, o_icmpne 8 73, o_int (.bipush 100) 100, o_goto 22 92] else
  if p = 73 then [o_int (.sipush 1000) 1000, o_goto 16 92] else
  if p = 79 then [o_ald (.aload_n 0) 0, o_ild (.iload_n 1) 1, o_ild (.iload_n 3) 3, o_ald (.aload_n 0) 0, o_cv (.invokevirtual 370) 3 kX3_shipCoal 0 0, o_ild (.iload 4) 4, o_isub, o_cv (.invokevirtual 414) 3 kX3_hopeBehind 3 0, o_fall 92] else
  if p = 92 then [o_ist (.istore 5) 5, o_ild (.iload 5) 5, o_ild (.iload_n 2) 2, o_icmpgt 6 103, o_goto 11 111] else
  if p = 103 then [o_ild (.iload 5) 5, o_ist (.istore_n 2) 2, o_ald (.aload_n 0) 0, o_ild (.iload_n 3) 3, o_putf (.putfield 411) 3 39 0, o_fall 111] else
  if p = 111 then [o_inc 3 1, o_goto (-98) 16] else
  if p = 117 then [o_ild (.iload_n 2) 2, o_ifge 7 125, o_int (.iconst 0) 0, o_goto 4 126] else
  if p = 125 then [o_ild (.iload_n 2) 2, o_fall 126] else
  if p = 126 then [o_iret 0] else
  []
def mX3_isWayOut : Nat → List tp_Op := fun p => 
  if p = 0 then [o_ild (.iload_n 2) 2, o_int (.iconst 4) 4, o_icmpge 25 27, o_ald (.aload_n 0) 0, o_getf (.getfield 7) 3 3, o_int (.bipush 70) 70, o_ald (.aload_n 0) 0, o_ild (.iload_n 1) 1, o_ild (.iload_n 2) 2, o_cv (.invokevirtual 271) 3 kX3_pushed 2 0, o_iadd, o_lda .iaload [0, 20], o_int (.iconst 1) 1, o_icmpne 7 27, o_int (.iconst 1) 1, o_goto 4 28] else
  if p = 27 then [o_int (.iconst 0) 0, o_fall 28] else
  if p = 28 then [o_iret 1] else
  []
def mX3_hopeBehind : Nat → List tp_Op := fun p => 
  if p = 0 then [o_int (.iconst 0) 0, o_ist (.istore 4) 4, o_ild (.iload_n 2) 2, o_ald (.aload_n 0) 0, o_cv (.invokevirtual 373) 3 kX3_shipBanked 0 0, o_cs (.invokestatic 322) kX3_firesBehind 2 0, o_ist (.istore 5) 5, o_int (.iconst 0) 0, o_ist (.istore 6) 6, o_fall 16] else
  if p = 16 then [o_ild (.iload 6) 6, o_int (.iconst 4) 4, o_icmpge 163 182, o_ild (.iload_n 1) 1, o_int (.iconst 1) 1, o_icmple 158 182, o_ald (.aload_n 0) 0, o_ald (.aload_n 0) 0, o_getf (.getfield 7) 3 3, o_int (.iconst 1) 1, o_lda .iaload [0, 20], o_ild (.iload 6) 6, o_cv (.invokevirtual 401) 3 kX3_chanceOf 2 0, o_ifne 6 45, o_goto 134 176] else
  if p = 45 then [o_ald (.aload_n 0) 0, o_int (.sipush 504) 504, o_int (.sipush 540) 540, o_ild (.iload 6) 6, o_ald (.aload_n 0) 0, o_getf (.getfield 7) 3 3, o_int (.iconst 0) 0, o_lda .iaload [0, 20], o_cv (.invokevirtual 335) 3 kX3_go 4 0, o_ald (.aload_n 0) 0, o_ald (.aload_n 0) 0, o_cv (.invokevirtual 367) 3 kX3_shipCell 0 0, o_ild (.iload_n 2) 2, o_ild (.iload 6) 6, o_cv (.invokevirtual 404) 3 kX3_behind 3 0, o_ist (.istore 7) 7, o_ald (.aload_n 0) 0, o_int (.sipush 540) 540, o_ild (.iload 7) 7, o_ild (.iload 6) 6, o_ald (.aload_n 0) 0, o_getf (.getfield 7) 3 3, o_int (.iconst 0) 0, o_lda .iaload [0, 20], o_cv (.invokevirtual 328) 3 kX3_nips 4 0, o_ifeq 6 99, o_goto 80 176] else
  if p = 99 then [o_ild (.iload_n 1) 1, o_int (.iconst 2) 2, o_icmpne 28 129, o_ald (.aload_n 0) 0, o_int (.sipush 540) 540, o_ild (.iload 7) 7, o_ild (.iload_n 3) 3, o_ild (.iload 5) 5, o_ild (.iload 6) 6, o_ald (.aload_n 0) 0, o_getf (.getfield 7) 3 3, o_int (.iconst 0) 0, o_lda .iaload [0, 20], o_int (.iconst 1) 1, o_iadd, o_cv (.invokevirtual 407) 3 kX3_hopeOne 6 0, o_goto 28 154] else
  if p = 129 then [o_ald (.aload_n 0) 0, o_int (.sipush 540) 540, o_int (.sipush 576) 576, o_ild (.iload 7) 7, o_ild (.iload_n 3) 3, o_ild (.iload 5) 5, o_ild (.iload 6) 6, o_ald (.aload_n 0) 0, o_getf (.getfield 7) 3 3, o_int (.iconst 0) 0, o_lda .iaload [0, 20], o_int (.iconst 1) 1, o_iadd, o_cv (.invokevirtual 417) 3 kX3_hopeTwo 7 0, o_fall 154] else
  if p = 154 then [o_ist (.istore 8) 8, o_ild (.iload 4) 4, o_ald (.aload_n 0) 0, o_ald (.aload_n 0) 0, o_getf (.getfield 7) 3 3, o_int (.iconst 1) 1, o_lda .iaload [0, 20], o_ild (.iload 6) 6, o_cv (.invokevirtual 401) 3 kX3_chanceOf 2 0, o_ild (.iload 8) 8, o_imul, o_iadd, o_ist (.istore 4) 4, o_fall 176] else
  if p = 176 then [o_inc 6 1, o_goto (-163) 16] else
  if p = 182 then [o_ild (.iload 4) 4, o_iret 0] else
  []
def mX3_chanceOf : Nat → List tp_Op := fun p => 
  if p = 0 then [o_ald (.aload_n 0) 0, o_getf (.getfield 7) 3 3, o_int (.sipush 160) 160, o_int (.iconst 4) 4, o_ild (.iload_n 1) 1, o_imul, o_iadd, o_ild (.iload_n 2) 2, o_iadd, o_lda .iaload [0, 20], o_iret 0] else
  []
def mX3_behind : Nat → List tp_Op := fun p => 
  if p = 0 then [o_ild (.iload_n 2) 2, o_int (.iconst 4) 4, o_icmpge 12 14, o_ald (.aload_n 0) 0, o_ild (.iload_n 1) 1, o_ild (.iload_n 2) 2, o_cv (.invokevirtual 271) 3 kX3_pushed 2 0, o_goto 18 29] else
  if p = 14 then [o_ild (.iload_n 2) 2, o_int (.iconst 5) 5, o_icmpne 7 23, o_ild (.iload_n 1) 1, o_goto 9 29] else
  if p = 23 then [o_ald (.aload_n 0) 0, o_ild (.iload_n 1) 1, o_ild (.iload_n 3) 3, o_cv (.invokevirtual 325) 3 kX3_drifted 2 0, o_fall 29] else
  if p = 29 then [o_iret 0] else
  []
def mX3_hopeOne : Nat → List tp_Op := fun p => 
  if p = 0 then [o_int (.iconst 0) 0, o_ist (.istore 7) 7, o_fall 3] else
  if p = 3 then [o_ild (.iload 7) 7, o_int (.iconst 4) 4, o_icmpge 40 46, o_ald (.aload_n 0) 0, o_ild (.iload_n 1) 1, o_ild (.iload_n 2) 2, o_ild (.iload_n 3) 3, o_ild (.iload 4) 4, o_ild (.iload 7) 7, o_ild (.iload 5) 5, o_ild (.iload 6) 6, o_cv (.invokevirtual 306) 3 kX3_orderCost 7 0, o_iflt 16 40, o_ald (.aload_n 0) 0, o_ild (.iload_n 2) 2, o_ild (.iload 7) 7, o_cv (.invokevirtual 397) 3 kX3_isWayOut 2 0, o_ifeq 6 40, o_int (.bipush 10) 10, o_iret 0] else
  if p = 40 then [o_inc 7 1, o_goto (-40) 3] else
  if p = 46 then [o_int (.iconst 0) 0, o_iret 0] else
  []
def mX3_hopeTwo : Nat → List tp_Op := fun p => 
  if p = 0 then [o_int (.iconst 0) 0, o_ist (.istore 8) 8, o_int (.iconst 0) 0, o_ist (.istore 9) 9, o_fall 6] else
  if p = 6 then [o_ild (.iload 9) 9, o_int (.bipush 8) 8, o_icmpge 170 180, o_ald (.aload_n 0) 0, o_ild (.iload_n 1) 1, o_ild (.iload_n 3) 3, o_ild (.iload 4) 4, o_ild (.iload 5) 5, o_ild (.iload 9) 9, o_ild (.iload 6) 6, o_ild (.iload 7) 7, o_cv (.invokevirtual 306) 3 kX3_orderCost 7 0, o_ist (.istore 10) 10, o_ild (.iload 10) 10, o_ifge 6 39, o_goto 138 174] else
  if p = 39 then [o_ald (.aload_n 0) 0, o_ild (.iload_n 3) 3, o_ild (.iload 9) 9, o_cv (.invokevirtual 397) 3 kX3_isWayOut 2 0, o_ifeq 6 52, o_int (.bipush 100) 100, o_iret 0] else
  if p = 52 then [o_int (.iconst 0) 0, o_ist (.istore 11) 11, o_int (.iconst 0) 0, o_ist (.istore 12) 12, o_fall 58] else
  if p = 58 then [o_ild (.iload 12) 12, o_int (.iconst 4) 4, o_icmpge 97 158, o_ald (.aload_n 0) 0, o_ild (.iload 6) 6, o_ild (.iload 12) 12, o_cv (.invokevirtual 401) 3 kX3_chanceOf 2 0, o_ifne 6 78, o_goto 77 152] else
  if p = 78 then [o_ald (.aload_n 0) 0, o_ild (.iload_n 1) 1, o_ild (.iload_n 2) 2, o_ild (.iload 12) 12, o_ild (.iload 7) 7, o_cv (.invokevirtual 335) 3 kX3_go 4 0, o_ald (.aload_n 0) 0, o_ild (.iload_n 3) 3, o_ild (.iload 9) 9, o_ild (.iload 12) 12, o_cv (.invokevirtual 404) 3 kX3_behind 3 0, o_ist (.istore 13) 13, o_ald (.aload_n 0) 0, o_ild (.iload_n 2) 2, o_ild (.iload 13) 13, o_ild (.iload 12) 12, o_ild (.iload 7) 7, o_cv (.invokevirtual 328) 3 kX3_nips 4 0, o_ifne 42 152, o_ild (.iload 11) 11, o_ald (.aload_n 0) 0, o_ild (.iload 6) 6, o_ild (.iload 12) 12, o_cv (.invokevirtual 401) 3 kX3_chanceOf 2 0, o_ald (.aload_n 0) 0, o_ild (.iload_n 2) 2, o_ild (.iload 13) 13, o_ild (.iload 4) 4, o_ild (.iload 10) 10, o_isub, o_ild (.iload 9) 9, o_ild (.iload 5) 5, o_cs (.invokestatic 322) kX3_firesBehind 2 0, o_ild (.iload 12) 12, o_ild (.iload 7) 7, o_int (.iconst 1) 1, o_iadd, o_cv (.invokevirtual 407) 3 kX3_hopeOne 6 0, o_imul, o_iadd, o_ist (.istore 11) 11, o_fall 152] else
  if p = 152 then [o_inc 12 1, o_goto (-97) 58] else
  if p = 158 then [o_ild (.iload 11) 11, o_ild (.iload 8) 8, o_icmple 8 170, o_ild (.iload 11) 11, o_goto 5 172] else
  if p = 170 then [o_ild (.iload 8) 8, o_fall 172] else
  if p = 172 then [o_ist (.istore 8) 8, o_fall 174] else
  if p = 174 then [o_inc 9 1, o_goto (-171) 6] else
  if p = 180 then [o_ild (.iload 8) 8, o_iret 0] else
  []
def mX3_known : Nat → List tp_Op := fun p => 
  if p = 0 then [o_int (.iconst 0) 0, o_ist (.istore_n 2) 2, o_fall 2] else
  if p = 2 then [o_ild (.iload_n 2) 2, o_int (.bipush 12) 12, o_icmpge 25 30, o_ald (.aload_n 0) 0, o_getf (.getfield 74) 3 40, o_ild (.iload_n 2) 2, o_ald (.aload_n 0) 0, o_getf (.getfield 7) 3 3, o_int (.sipush 180) 180, o_ild (.iload_n 2) 2, o_iadd, o_lda .iaload [0, 20], o_sta .iastore [0], o_inc 2 1, o_goto (-25) 2] else
  if p = 30 then [o_ald (.aload_n 0) 0, o_getf (.getfield 74) 3 40, o_int (.bipush 12) 12, o_ald (.aload_n 0) 0, o_getf (.getfield 7) 3 3, o_int (.iconst 4) 4, o_lda .iaload [0, 20], o_sta .iastore [0], o_ald (.aload_n 0) 0, o_getf (.getfield 7) 3 3, o_int (.iconst 4) 4, o_ild (.iload_n 1) 1, o_sta .iastore [0], o_int (.iconst 0) 0, o_ist (.istore_n 2) 2, o_ild (.iload_n 1) 1, o_int (.iconst 1) 1, o_icmpne 7 61, o_int (.iconst 4) 4, o_goto 15 73] else
  if p = 61 then [o_ild (.iload_n 1) 1, o_int (.iconst 2) 2, o_icmpne 8 71, o_int (.bipush 16) 16, o_goto 5 73] else
  if p = 71 then [o_int (.bipush 64) 64, o_fall 73] else
  if p = 73 then [o_ist (.istore_n 3) 3, o_int (.iconst 0) 0, o_ist (.istore 4) 4, o_fall 77] else
  if p = 77 then [o_ild (.iload 4) 4, o_ild (.iload_n 3) 3, o_icmpge 112 192, o_ild (.iload 4) 4, o_ist (.istore 5) 5, o_int (.iconst 1) 1, o_ist (.istore 6) 6, o_int (.iconst 0) 0, o_ist (.istore 7) 7, o_fall 93] else
  if p = 93 then [o_ild (.iload 7) 7, o_ild (.iload_n 1) 1, o_icmpge 49 145, o_ald (.aload_n 0) 0, o_getf (.getfield 7) 3 3, o_int (.sipush 180) 180, o_ild (.iload 7) 7, o_iadd, o_ild (.iload 5) 5, o_int (.iconst 4) 4, o_irem, o_sta .iastore [0], o_ild (.iload 6) 6, o_ald (.aload_n 0) 0, o_ald (.aload_n 0) 0, o_ild (.iload 7) 7, o_cv (.invokevirtual 342) 3 kX3_windBefore 1 0, o_ild (.iload 5) 5, o_int (.iconst 4) 4, o_irem, o_cv (.invokevirtual 401) 3 kX3_chanceOf 2 0, o_imul, o_ist (.istore 6) 6, o_ild (.iload 5) 5, o_int (.iconst 4) 4, o_idiv, o_ist (.istore 5) 5, o_inc 7 1, o_goto (-49) 93] else
  if p = 145 then [o_ild (.iload 6) 6, o_ifne 6 153, o_goto 36 186] else
  if p = 153 then [o_ald (.aload_n 0) 0, o_cv (.invokevirtual 364) 3 kX3_findOut 0 0, o_ald (.aload_n 0) 0, o_getf (.getfield 53) 3 31, o_int (.iconst 0) 0, o_ald (.aload_n 0) 0, o_cv (.invokevirtual 367) 3 kX3_shipCell 0 0, o_ald (.aload_n 0) 0, o_cv (.invokevirtual 370) 3 kX3_shipCoal 0 0, o_ald (.aload_n 0) 0, o_cv (.invokevirtual 373) 3 kX3_shipBanked 0 0, o_cs (.invokestatic 352) kX3_stateAt 4 0, o_lda .iaload [0, 20], o_iflt 8 186, o_ild (.iload_n 2) 2, o_ild (.iload 6) 6, o_iadd, o_ist (.istore_n 2) 2, o_fall 186] else
  if p = 186 then [o_inc 4 1, o_goto (-112) 77] else
  if p = 192 then [o_int (.iconst 0) 0, o_ist (.istore 4) 4, o_fall 195] else
  if p = 195 then [o_ild (.iload 4) 4, o_int (.bipush 12) 12, o_icmpge 27 226, o_ald (.aload_n 0) 0, o_getf (.getfield 7) 3 3, o_int (.sipush 180) 180, o_ild (.iload 4) 4, o_iadd, o_ald (.aload_n 0) 0, o_getf (.getfield 74) 3 40, o_ild (.iload 4) 4, o_lda .iaload [0, 20], o_sta .iastore [0], o_inc 4 1, o_goto (-28) 195] else
  if p = 226 then [o_ald (.aload_n 0) 0, o_getf (.getfield 7) 3 3, o_int (.iconst 4) 4, o_ald (.aload_n 0) 0, o_getf (.getfield 74) 3 40, o_int (.bipush 12) 12, o_lda .iaload [0, 20], o_sta .iastore [0], o_ild (.iload_n 2) 2, o_iret 0] else
  []
def mX3_leads : Nat → List tp_Op := fun p => 
  if p = 0 then [o_ild (.iload_n 1) 1, o_int (.iconst (-1)) (-1), o_icmpeq 13 15, o_ald (.aload_n 0) 0, o_ild (.iload_n 1) 1, o_cv (.invokevirtual 98) 3 kX3_isCell 1 0, o_ifne 5 15, o_int (.iconst (-1)) (-1), o_iret 0] else
  if p = 15 then [o_ald (.aload_n 0) 0, o_int (.sipush 504) 504, o_cv (.invokevirtual 316) 3 kX3_layNow 1 0, o_int (.iconst 0) 0, o_ist (.istore_n 2) 2, o_fall 24] else
  if p = 24 then [o_ild (.iload_n 2) 2, o_ald (.aload_n 0) 0, o_getf (.getfield 83) 3 2, o_icmpge 28 57, o_ald (.aload_n 0) 0, o_getf (.getfield 53) 3 31, o_ild (.iload_n 2) 2, o_ild (.iload_n 2) 2, o_ald (.aload_n 0) 0, o_cv (.invokevirtual 367) 3 kX3_shipCell 0 0, o_icmpne 7 49, o_int (.iconst 0) 0, o_goto 4 50] else
  if p = 49 then [o_int (.iconst (-1)) (-1), o_fall 50] else
  if p = 50 then [o_sta .iastore [0], o_inc 2 1, o_goto (-30) 24] else
  if p = 57 then [o_int (.iconst 1) 1, o_ist (.istore_n 2) 2, o_int (.iconst 0) 0, o_ist (.istore_n 3) 3, o_fall 61] else
  if p = 61 then [o_ild (.iload_n 2) 2, o_ifeq 136 198, o_int (.iconst 0) 0, o_ist (.istore_n 2) 2, o_int (.iconst 0) 0, o_ist (.istore 4) 4, o_fall 70] else
  if p = 70 then [o_ild (.iload 4) 4, o_ald (.aload_n 0) 0, o_getf (.getfield 83) 3 2, o_icmpge 116 192, o_int (.iconst 0) 0, o_ist (.istore 5) 5, o_fall 82] else
  if p = 82 then [o_ild (.iload 5) 5, o_int (.iconst 4) 4, o_icmpge 101 186, o_ald (.aload_n 0) 0, o_getf (.getfield 53) 3 31, o_ild (.iload 4) 4, o_lda .iaload [0, 20], o_ild (.iload_n 3) 3, o_icmpne 90 186, o_ild (.iload_n 3) 3, o_ifeq 16 116, o_ald (.aload_n 0) 0, o_getf (.getfield 7) 3 3, o_int (.bipush 70) 70, o_ild (.iload 4) 4, o_iadd, o_lda .iaload [0, 20], o_ifne 73 186, o_fall 116] else
  if p = 116 then [o_ald (.aload_n 0) 0, o_ild (.iload 4) 4, o_ild (.iload 5) 5, o_cv (.invokevirtual 271) 3 kX3_pushed 2 0, o_ist (.istore 6) 6, o_ild (.iload 6) 6, o_iflt 52 180, o_ald (.aload_n 0) 0, o_getf (.getfield 53) 3 31, o_ild (.iload 6) 6, o_lda .iaload [0, 20], o_ifge 42 180, o_ald (.aload_n 0) 0, o_int (.sipush 504) 504, o_ild (.iload 6) 6, o_ald (.aload_n 0) 0, o_getf (.getfield 7) 3 3, o_int (.iconst 1) 1, o_lda .iaload [0, 20], o_ald (.aload_n 0) 0, o_getf (.getfield 7) 3 3, o_int (.iconst 0) 0, o_lda .iaload [0, 20], o_cv (.invokevirtual 302) 3 kX3_pushCost 4 0, o_ifge 6 168, o_goto 15 180] else
  if p = 168 then [o_ald (.aload_n 0) 0, o_getf (.getfield 53) 3 31, o_ild (.iload 6) 6, o_ild (.iload_n 3) 3, o_int (.iconst 1) 1, o_iadd, o_sta .iastore [0], o_int (.iconst 1) 1, o_ist (.istore_n 2) 2, o_fall 180] else
  if p = 180 then [o_inc 5 1, o_goto (-101) 82] else
  if p = 186 then [o_inc 4 1, o_goto (-119) 70] else
  if p = 192 then [o_inc 3 1, o_goto (-134) 61] else
  if p = 198 then [o_ild (.iload_n 1) 1, o_iflt 10 209, o_ald (.aload_n 0) 0, o_getf (.getfield 53) 3 31, o_ild (.iload_n 1) 1, o_lda .iaload [0, 20], o_iret 0] else
  if p = 209 then [o_int (.iconst 0) 0, o_ist (.istore_n 3) 3, o_int (.iconst 0) 0, o_ist (.istore 4) 4, o_fall 214] else
  if p = 214 then [o_ild (.iload 4) 4, o_ald (.aload_n 0) 0, o_getf (.getfield 83) 3 2, o_icmpge 27 247, o_ild (.iload_n 3) 3, o_ald (.aload_n 0) 0, o_getf (.getfield 53) 3 31, o_ild (.iload 4) 4, o_lda .iaload [0, 20], o_iflt 7 238, o_int (.iconst 1) 1, o_goto 4 239] else
  if p = 238 then [o_int (.iconst 0) 0, o_fall 239] else
  if p = 239 then [o_iadd, o_ist (.istore_n 3) 3, o_inc 4 1, o_goto (-30) 214] else
  if p = 247 then [o_ild (.iload_n 3) 3, o_iret 0] else
  []
def mX3_prior : Nat → List tp_Op := fun p => 
  if p = 0 then [o_ild (.iload_n 1) 1, o_int (.iconst 0) 0, o_int (.iconst 5) 5, o_cs (.invokestatic 90) kX3_isIn 3 0, o_ifeq 13 19, o_ild (.iload_n 2) 2, o_int (.iconst 0) 0, o_int (.bipush 9) 9, o_cs (.invokestatic 90) kX3_isIn 3 0, o_ifne 5 21, o_fall 19] else
  if p = 19 then [o_int (.iconst 0) 0, o_iret 1] else
  if p = 21 then [o_ald (.aload_n 0) 0, o_getf (.getfield 7) 3 3, o_int (.sipush 210) 210, o_ild (.iload_n 1) 1, o_iadd, o_ild (.iload_n 2) 2, o_sta .iastore [0], o_int (.iconst 1) 1, o_iret 1] else
  []
def mX3_look_2 : Nat → List tp_Op := fun p => 
  if p = 0 then [o_ald (.aload_n 0) 0, o_ild (.iload_n 1) 1, o_cv (.invokevirtual 98) 3 kX3_isCell 1 0, o_ifeq 24 29, o_ild (.iload_n 2) 2, o_int (.iconst 0) 0, o_int (.iconst 5) 5, o_cs (.invokestatic 90) kX3_isIn 3 0, o_ifeq 15 29, o_ald (.aload_n 0) 0, o_getf (.getfield 7) 3 3, o_int (.bipush 7) 7, o_lda .iaload [0, 20], o_int (.bipush 30) 30, o_icmpne 5 31, o_fall 29] else
  if p = 29 then [o_int (.iconst (-1)) (-1), o_iret 0] else
  if p = 31 then [o_ald (.aload_n 0) 0, o_getf (.getfield 7) 3 3, o_int (.sipush 220) 220, o_int (.iconst 2) 2, o_ald (.aload_n 0) 0, o_getf (.getfield 7) 3 3, o_int (.bipush 7) 7, o_lda .iaload [0, 20], o_imul, o_iadd, o_ild (.iload_n 1) 1, o_sta .iastore [0], o_ald (.aload_n 0) 0, o_getf (.getfield 7) 3 3, o_int (.sipush 220) 220, o_int (.iconst 2) 2, o_ald (.aload_n 0) 0, o_getf (.getfield 7) 3 3, o_int (.bipush 7) 7, o_lda .iaload [0, 20], o_imul, o_iadd, o_int (.iconst 1) 1, o_iadd, o_ild (.iload_n 2) 2, o_sta .iastore [0], o_ald (.aload_n 0) 0, o_getf (.getfield 7) 3 3, o_int (.bipush 7) 7, o_dup2, o_lda .iaload [0, 20], o_int (.iconst 1) 1, o_iadd, o_sta .iastore [0], o_ald (.aload_n 0) 0, o_getf (.getfield 7) 3 3, o_int (.bipush 7) 7, o_lda .iaload [0, 20], o_iret 0] else
  []
def mX3_think : Nat → List tp_Op := fun p => 
  if p = 0 then [o_ald (.aload_n 0) 0, o_ild (.iload_n 1) 1, o_cv (.invokevirtual 98) 3 kX3_isCell 1 0, o_ifeq 12 17, o_ild (.iload_n 2) 2, o_int (.iconst (-1)) (-1), o_int (.iconst 5) 5, o_cs (.invokestatic 90) kX3_isIn 3 0, o_ifne 5 19, o_fall 17] else
  if p = 17 then [o_int (.iconst (-1)) (-1), o_iret 0] else
  if p = 19 then [o_int (.iconst 0) 0, o_ist (.istore_n 3) 3, o_int (.iconst 0) 0, o_ist (.istore 4) 4, o_fall 24] else
  if p = 24 then [o_ild (.iload 4) 4, o_ald (.aload_n 0) 0, o_getf (.getfield 7) 3 3, o_int (.bipush 7) 7, o_lda .iaload [0, 20], o_icmpge 34 67, o_ild (.iload_n 3) 3, o_ald (.aload_n 0) 0, o_getf (.getfield 7) 3 3, o_int (.sipush 220) 220, o_int (.iconst 2) 2, o_ild (.iload 4) 4, o_imul, o_iadd, o_lda .iaload [0, 20], o_ild (.iload_n 1) 1, o_icmpne 7 58, o_int (.iconst 1) 1, o_goto 4 59] else
  if p = 58 then [o_int (.iconst 0) 0, o_fall 59] else
  if p = 59 then [o_iadd, o_ist (.istore_n 3) 3, o_inc 4 1, o_goto (-40) 24] else
  if p = 67 then [o_ild (.iload_n 2) 2, o_ifge 5 73, o_ild (.iload_n 3) 3, o_iret 0] else
  if p = 73 then [o_lng (.lconst 0) 0, o_lst (.lstore 4) 4, o_int (.iconst 0) 0, o_ist (.istore 6) 6, o_fall 79] else
  if p = 79 then [o_ild (.iload 6) 6, o_int (.bipush 6) 6, o_icmpge 21 104, o_lld (.lload 4) 4, o_ald (.aload_n 0) 0, o_ild (.iload_n 1) 1, o_ild (.iload 6) 6, o_cv (.invokevirtual 428) 3 kX3_weigh 2 0, o_ladd, o_lst (.lstore 4) 4, o_inc 6 1, o_goto (-22) 79] else
  if p = 104 then [o_lld (.lload 4) 4, o_lng (.lconst 0) 0, o_lcmp, o_ifne 7 115, o_int (.iconst (-1)) (-1), o_goto 17 129] else
  if p = 115 then [o_lng (.ldc2_w 432) 1000, o_ald (.aload_n 0) 0, o_ild (.iload_n 1) 1, o_ild (.iload_n 2) 2, o_cv (.invokevirtual 428) 3 kX3_weigh 2 0, o_lmul, o_lld (.lload 4) 4, o_ldiv, o_l2i, o_fall 129] else
  if p = 129 then [o_iret 0] else
  []
def mX3_weigh : Nat → List tp_Op := fun p => 
  if p = 0 then [o_ald (.aload_n 0) 0, o_getf (.getfield 7) 3 3, o_int (.sipush 210) 210, o_ild (.iload_n 2) 2, o_iadd, o_lda .iaload [0, 20], o_i2l, o_lst (.lstore_n 3) 3, o_int (.iconst 0) 0, o_ist (.istore 5) 5, o_ald (.aload_n 0) 0, o_getf (.getfield 7) 3 3, o_int (.bipush 7) 7, o_lda .iaload [0, 20], o_int (.iconst 1) 1, o_isub, o_ist (.istore 6) 6, o_fall 26] else
  if p = 26 then [o_ild (.iload 6) 6, o_iflt 89 117, o_ild (.iload 5) 5, o_int (.bipush 12) 12, o_icmpge 82 117, o_ald (.aload_n 0) 0, o_getf (.getfield 7) 3 3, o_int (.sipush 220) 220, o_int (.iconst 2) 2, o_ild (.iload 6) 6, o_imul, o_iadd, o_lda .iaload [0, 20], o_ild (.iload_n 1) 1, o_icmpeq 6 58, o_goto 56 111] else
  if p = 58 then [o_inc 5 1, o_ald (.aload_n 0) 0, o_getf (.getfield 7) 3 3, o_int (.sipush 220) 220, o_int (.iconst 2) 2, o_ild (.iload 6) 6, o_imul, o_iadd, o_int (.iconst 1) 1, o_iadd, o_lda .iaload [0, 20], o_ild (.iload_n 2) 2, o_isub, o_ist (.istore 7) 7, o_lld (.lload_n 3) 3, o_ild (.iload 7) 7, o_ifne 9 92, o_lng (.ldc2_w 426) 8, o_goto 20 109] else
  if p = 92 then [o_ild (.iload 7) 7, o_int (.iconst 1) 1, o_icmpeq 9 104, o_ild (.iload 7) 7, o_int (.iconst (-1)) (-1), o_icmpne 7 108, o_fall 104] else
  if p = 104 then [o_lng (.lconst 1) 1, o_goto 4 109] else
  if p = 108 then [o_lng (.lconst 0) 0, o_fall 109] else
  if p = 109 then [o_lmul, o_lst (.lstore_n 3) 3, o_fall 111] else
  if p = 111 then [o_inc 6 (-1), o_goto (-88) 26] else
  if p = 117 then [o_lld (.lload_n 3) 3, o_lret] else
  []
def mX3_run : Nat → List tp_Op := fun p => 
  if p = 0 then [o_ald (.aload_n 0) 0, o_ild (.iload_n 1) 1, o_cv (.invokevirtual 464) 3 kX3_isText 1 0, o_ifeq 42 47, o_ild (.iload_n 2) 2, o_int (.iconst 0) 0, o_int (.sipush 9999) 9999, o_cs (.invokestatic 90) kX3_isIn 3 0, o_ifeq 31 47, o_ild (.iload_n 3) 3, o_int (.iconst 1) 1, o_int (.bipush 40) 40, o_cs (.invokestatic 90) kX3_isIn 3 0, o_ifeq 21 47, o_ild (.iload 4) 4, o_int (.iconst 0) 0, o_int (.iconst 3) 3, o_cs (.invokestatic 90) kX3_isIn 3 0, o_ifeq 11 47, o_ald (.aload_n 0) 0, o_int (.iconst 0) 0, o_cv (.invokevirtual 313) 3 kX3_isFree 1 0, o_ifne 5 49, o_fall 47] else
  if p = 47 then [o_int (.iconst (-1)) (-1), o_iret 0] else
  if p = 49 then [o_ald (.aload_n 0) 0, o_ild (.iload_n 1) 1, o_ild (.iload_n 2) 2, o_ild (.iload_n 3) 3, o_cv (.invokevirtual 467) 3 kX3_runAll 3 0, o_ild (.iload 4) 4, o_ifne 10 68, o_ald (.aload_n 0) 0, o_getf (.getfield 452) 3 44, o_goto 33 98] else
  if p = 68 then [o_ild (.iload 4) 4, o_int (.iconst 1) 1, o_icmpne 10 81, o_ald (.aload_n 0) 0, o_getf (.getfield 446) 3 45, o_goto 20 98] else
  if p = 81 then [o_ild (.iload 4) 4, o_int (.iconst 2) 2, o_icmpne 10 94, o_ald (.aload_n 0) 0, o_getf (.getfield 434) 3 41, o_goto 7 98] else
  if p = 94 then [o_ald (.aload_n 0) 0, o_getf (.getfield 437) 3 42, o_fall 98] else
  if p = 98 then [o_iret 0] else
  []
def mX3_isText : Nat → List tp_Op := fun p => 
  if p = 0 then [o_ild (.iload_n 1) 1, o_int (.iconst 0) 0, o_ald (.aload_n 0) 0, o_getf (.getfield 7) 3 3, o_int (.iconst 2) 2, o_lda .iaload [0, 20], o_int (.iconst 1) 1, o_isub, o_cs (.invokestatic 90) kX3_isIn 3 0, o_iret 1] else
  []
def mX3_runAll : Nat → List tp_Op := fun p => 
  if p = 0 then [o_ald (.aload_n 0) 0, o_ald (.aload_n 0) 0, o_cv (.invokevirtual 367) 3 kX3_shipCell 0 0, o_putf (.putfield 434) 3 41 0, o_ald (.aload_n 0) 0, o_ald (.aload_n 0) 0, o_cv (.invokevirtual 370) 3 kX3_shipCoal 0 0, o_putf (.putfield 437) 3 42 0, o_ald (.aload_n 0) 0, o_ald (.aload_n 0) 0, o_cv (.invokevirtual 373) 3 kX3_shipBanked 0 0, o_putf (.putfield 440) 3 43 0, o_ald (.aload_n 0) 0, o_int (.iconst 0) 0, o_putf (.putfield 452) 3 44 0, o_ald (.aload_n 0) 0, o_int (.iconst 0) 0, o_putf (.putfield 446) 3 45 0, o_ald (.aload_n 0) 0, o_ald (.aload_n 0) 0, o_getf (.getfield 7) 3 3, o_int (.iconst 1) 1, o_lda .iaload [0, 20], o_putf (.putfield 443) 3 46 0, o_ald (.aload_n 0) 0, o_int (.sipush 612) 612, o_cv (.invokevirtual 316) 3 kX3_layNow 1 0, o_ild (.iload_n 2) 2, o_int (.bipush 7) 7, o_imul, o_int (.iconst 3) 3, o_iadd, o_ist (.istore 4) 4, o_fall 59] else
  if p = 59 then [o_ald (.aload_n 0) 0, o_getf (.getfield 446) 3 45, o_ild (.iload_n 3) 3, o_icmpge 47 111, o_ald (.aload_n 0) 0, o_getf (.getfield 452) 3 44, o_ifne 40 111, o_ald (.aload_n 0) 0, o_ild (.iload_n 1) 1, o_cv (.invokevirtual 455) 3 kX3_orderBy 1 0, o_ist (.istore 5) 5, o_ald (.aload_n 0) 0, o_ild (.iload 5) 5, o_ald (.aload_n 0) 0, o_ild (.iload 4) 4, o_cv (.invokevirtual 458) 3 kX3_drawWind 1 0, o_cv (.invokevirtual 461) 3 kX3_runOne 2 0, o_ild (.iload 4) 4, o_int (.sipush 173) 173, o_imul, o_int (.bipush 11) 11, o_iadd, o_int (.sipush 30103) 30103, o_irem, o_ist (.istore 4) 4, o_goto (-49) 59] else
  if p = 111 then [o_vret] else
  []
def mX3_orderBy : Nat → List tp_Op := fun p => 
  if p = 0 then [o_int (.iconst 0) 0, o_ist (.istore_n 2) 2, o_fall 2] else
  if p = 2 then [o_ild (.iload_n 2) 2, o_ald (.aload_n 0) 0, o_ild (.iload_n 1) 1, o_cv (.invokevirtual 277) 3 kX3_clauses 1 0, o_icmpge 112 120, o_ald (.aload_n 0) 0, o_ild (.iload_n 1) 1, o_ild (.iload_n 2) 2, o_cv (.invokevirtual 280) 3 kX3_sortAt 2 0, o_int (.iconst 4) 4, o_icmpeq 6 24, o_goto 93 114] else
  if p = 24 then [o_ald (.aload_n 0) 0, o_int (.sipush 612) 612, o_ald (.aload_n 0) 0, o_getf (.getfield 434) 3 41, o_ald (.aload_n 0) 0, o_getf (.getfield 443) 3 46, o_ald (.aload_n 0) 0, o_getf (.getfield 7) 3 3, o_int (.iconst 0) 0, o_lda .iaload [0, 20], o_ald (.aload_n 0) 0, o_getf (.getfield 446) 3 45, o_iadd, o_cv (.invokevirtual 288) 3 kX3_nameCell 4 0, o_ald (.aload_n 0) 0, o_getf (.getfield 32) 3 25, o_int (.bipush 9) 9, o_ald (.aload_n 0) 0, o_getf (.getfield 437) 3 42, o_sta .iastore [0], o_ald (.aload_n 0) 0, o_getf (.getfield 32) 3 25, o_int (.bipush 10) 10, o_ald (.aload_n 0) 0, o_getf (.getfield 440) 3 43, o_sta .iastore [0], o_ald (.aload_n 0) 0, o_ild (.iload_n 1) 1, o_ild (.iload_n 2) 2, o_cv (.invokevirtual 283) 3 kX3_work 2 0, o_ald (.aload_n 0) 0, o_getf (.getfield 16) 3 5, o_int (.sipush 800) 800, o_ild (.iload_n 1) 1, o_imul, o_int (.iconst 2) 2, o_iadd, o_int (.iconst 4) 4, o_ild (.iload_n 2) 2, o_imul, o_iadd, o_lda .iaload [0, 20], o_ist (.istore_n 3) 3, o_ald (.aload_n 0) 0, o_getf (.getfield 39) 3 27, o_int (.iconst 0) 0, o_lda .baload [1, 2, 22], o_ifeq 13 114, o_ald (.aload_n 0) 0, o_ild (.iload_n 3) 3, o_cv (.invokevirtual 449) 3 kX3_canRun 1 0, o_ifeq 5 114, o_ild (.iload_n 3) 3, o_iret 0] else
  if p = 114 then [o_inc 2 1, o_goto (-115) 2] else
  if p = 120 then [o_ald (.aload_n 0) 0, o_int (.iconst 4) 4, o_cv (.invokevirtual 449) 3 kX3_canRun 1 0, o_ifeq 7 132, o_int (.iconst 4) 4, o_goto 5 134] else
  if p = 132 then [o_int (.bipush 6) 6, o_fall 134] else
  if p = 134 then [o_iret 0] else
  []
def mX3_canRun : Nat → List tp_Op := fun p => 
  if p = 0 then [o_ald (.aload_n 0) 0, o_int (.sipush 612) 612, o_ald (.aload_n 0) 0, o_getf (.getfield 434) 3 41, o_ald (.aload_n 0) 0, o_getf (.getfield 437) 3 42, o_ald (.aload_n 0) 0, o_getf (.getfield 440) 3 43, o_ild (.iload_n 1) 1, o_ald (.aload_n 0) 0, o_getf (.getfield 443) 3 46, o_ald (.aload_n 0) 0, o_getf (.getfield 7) 3 3, o_int (.iconst 0) 0, o_lda .iaload [0, 20], o_ald (.aload_n 0) 0, o_getf (.getfield 446) 3 45, o_iadd, o_cv (.invokevirtual 306) 3 kX3_orderCost 7 0, o_iflt 7 42, o_int (.iconst 1) 1, o_goto 4 43] else
  if p = 42 then [o_int (.iconst 0) 0, o_fall 43] else
  if p = 43 then [o_iret 1] else
  []
def mX3_drawWind : Nat → List tp_Op := fun p => 
  if p = 0 then [o_ild (.iload_n 1) 1, o_int (.bipush 10) 10, o_irem, o_ist (.istore_n 2) 2, o_int (.iconst 0) 0, o_ist (.istore_n 3) 3, o_fall 7] else
  if p = 7 then [o_ild (.iload_n 2) 2, o_ald (.aload_n 0) 0, o_ald (.aload_n 0) 0, o_getf (.getfield 443) 3 46, o_ild (.iload_n 3) 3, o_cv (.invokevirtual 401) 3 kX3_chanceOf 2 0, o_icmplt 21 38, o_ild (.iload_n 2) 2, o_ald (.aload_n 0) 0, o_ald (.aload_n 0) 0, o_getf (.getfield 443) 3 46, o_ild (.iload_n 3) 3, o_cv (.invokevirtual 401) 3 kX3_chanceOf 2 0, o_isub, o_ist (.istore_n 2) 2, o_inc 3 1, o_goto (-28) 7] else
  if p = 38 then [o_ild (.iload_n 3) 3, o_iret 0] else
  []
def mX3_runOne : Nat → List tp_Op := fun p => 
  if p = 0 then [o_ald (.aload_n 0) 0, o_int (.sipush 612) 612, o_ald (.aload_n 0) 0, o_getf (.getfield 434) 3 41, o_ald (.aload_n 0) 0, o_getf (.getfield 437) 3 42, o_ald (.aload_n 0) 0, o_getf (.getfield 440) 3 43, o_ild (.iload_n 1) 1, o_ald (.aload_n 0) 0, o_getf (.getfield 443) 3 46, o_ald (.aload_n 0) 0, o_getf (.getfield 7) 3 3, o_int (.iconst 0) 0, o_lda .iaload [0, 20], o_ald (.aload_n 0) 0, o_getf (.getfield 446) 3 45, o_iadd, o_cv (.invokevirtual 306) 3 kX3_orderCost 7 0, o_ist (.istore_n 3) 3, o_ald (.aload_n 0) 0, o_dup, o_getf (.getfield 437) 3 42, o_ild (.iload_n 3) 3, o_isub, o_putf (.putfield 437) 3 42 0, o_ald (.aload_n 0) 0, o_ild (.iload_n 1) 1, o_ald (.aload_n 0) 0, o_getf (.getfield 440) 3 43, o_cs (.invokestatic 322) kX3_firesBehind 2 0, o_putf (.putfield 440) 3 43 0, o_ild (.iload_n 1) 1, o_int (.iconst 0) 0, o_int (.iconst 3) 3, o_cs (.invokestatic 90) kX3_isIn 3 0, o_ifeq 41 105, o_ald (.aload_n 0) 0, o_ald (.aload_n 0) 0, o_ald (.aload_n 0) 0, o_getf (.getfield 434) 3 41, o_ild (.iload_n 1) 1, o_cv (.invokevirtual 271) 3 kX3_pushed 2 0, o_putf (.putfield 434) 3 41 0, o_ald (.aload_n 0) 0, o_ald (.aload_n 0) 0, o_getf (.getfield 7) 3 3, o_int (.bipush 70) 70, o_ald (.aload_n 0) 0, o_getf (.getfield 434) 3 41, o_iadd, o_lda .iaload [0, 20], o_int (.iconst 1) 1, o_icmpne 7 101, o_int (.iconst 1) 1, o_goto 4 102] else
  if p = 101 then [o_int (.iconst 0) 0, o_fall 102] else
  if p = 102 then [o_putf (.putfield 452) 3 44 0, o_fall 105] else
  if p = 105 then [o_ald (.aload_n 0) 0, o_int (.sipush 612) 612, o_int (.sipush 540) 540, o_ild (.iload_n 2) 2, o_ald (.aload_n 0) 0, o_getf (.getfield 7) 3 3, o_int (.iconst 0) 0, o_lda .iaload [0, 20], o_ald (.aload_n 0) 0, o_getf (.getfield 446) 3 45, o_iadd, o_cv (.invokevirtual 335) 3 kX3_go 4 0, o_int (.iconst 0) 0, o_ist (.istore 4) 4, o_fall 130] else
  if p = 130 then [o_ild (.iload 4) 4, o_ald (.aload_n 0) 0, o_getf (.getfield 83) 3 2, o_icmpge 31 167, o_ald (.aload_n 0) 0, o_getf (.getfield 43) 3 28, o_int (.sipush 612) 612, o_ild (.iload 4) 4, o_iadd, o_ald (.aload_n 0) 0, o_getf (.getfield 43) 3 28, o_int (.sipush 540) 540, o_ild (.iload 4) 4, o_iadd, o_lda .iaload [0, 20], o_sta .iastore [0], o_inc 4 1, o_goto (-34) 130] else
  if p = 167 then [o_ald (.aload_n 0) 0, o_getf (.getfield 452) 3 44, o_ifne 61 232, o_ild (.iload_n 1) 1, o_int (.iconst 0) 0, o_int (.iconst 3) 3, o_cs (.invokestatic 90) kX3_isIn 3 0, o_ifne 21 201, o_ild (.iload_n 1) 1, o_int (.iconst 5) 5, o_icmpeq 16 201, o_ald (.aload_n 0) 0, o_ald (.aload_n 0) 0, o_ald (.aload_n 0) 0, o_getf (.getfield 434) 3 41, o_ild (.iload_n 2) 2, o_cv (.invokevirtual 325) 3 kX3_drifted 2 0, o_putf (.putfield 434) 3 41 0, o_fall 201] else
  if p = 201 then [o_ald (.aload_n 0) 0, o_int (.sipush 612) 612, o_ald (.aload_n 0) 0, o_getf (.getfield 434) 3 41, o_ild (.iload_n 2) 2, o_ald (.aload_n 0) 0, o_getf (.getfield 7) 3 3, o_int (.iconst 0) 0, o_lda .iaload [0, 20], o_ald (.aload_n 0) 0, o_getf (.getfield 446) 3 45, o_iadd, o_cv (.invokevirtual 328) 3 kX3_nips 4 0, o_ifeq 8 232, o_ald (.aload_n 0) 0, o_int (.iconst 2) 2, o_putf (.putfield 452) 3 44 0, o_fall 232] else
  if p = 232 then [o_ald (.aload_n 0) 0, o_ild (.iload_n 2) 2, o_putf (.putfield 443) 3 46 0, o_ald (.aload_n 0) 0, o_dup, o_getf (.getfield 446) 3 45, o_int (.iconst 1) 1, o_iadd, o_putf (.putfield 446) 3 45 0, o_vret] else
  []
def mX3_runs : Nat → List tp_Op := fun p => 
  if p = 0 then [o_ald (.aload_n 0) 0, o_ild (.iload_n 1) 1, o_cv (.invokevirtual 464) 3 kX3_isText 1 0, o_ifeq 62 67, o_ild (.iload_n 2) 2, o_int (.iconst 0) 0, o_int (.sipush 9999) 9999, o_cs (.invokestatic 90) kX3_isIn 3 0, o_ifeq 51 67, o_ild (.iload_n 3) 3, o_int (.iconst 1) 1, o_int (.bipush 40) 40, o_cs (.invokestatic 90) kX3_isIn 3 0, o_ifeq 41 67, o_ild (.iload_n 2) 2, o_ild (.iload_n 3) 3, o_iadd, o_int (.sipush 10000) 10000, o_icmpgt 32 67, o_ild (.iload 4) 4, o_int (.iconst 1) 1, o_int (.bipush 40) 40, o_cs (.invokestatic 90) kX3_isIn 3 0, o_ifeq 21 67, o_ild (.iload 5) 5, o_int (.iconst 0) 0, o_int (.iconst 2) 2, o_cs (.invokestatic 90) kX3_isIn 3 0, o_ifeq 11 67, o_ald (.aload_n 0) 0, o_int (.iconst 0) 0, o_cv (.invokevirtual 313) 3 kX3_isFree 1 0, o_ifne 5 69, o_fall 67] else
  if p = 67 then [o_int (.iconst (-1)) (-1), o_iret 0] else
  if p = 69 then [o_int (.iconst 0) 0, o_ist (.istore 6) 6, o_int (.iconst 0) 0, o_ist (.istore 7) 7, o_fall 75] else
  if p = 75 then [o_ild (.iload 7) 7, o_ild (.iload_n 3) 3, o_icmpge 39 117, o_ald (.aload_n 0) 0, o_ild (.iload_n 1) 1, o_ild (.iload_n 2) 2, o_ild (.iload 7) 7, o_iadd, o_ild (.iload 4) 4, o_cv (.invokevirtual 467) 3 kX3_runAll 3 0, o_ild (.iload 6) 6, o_ald (.aload_n 0) 0, o_getf (.getfield 452) 3 44, o_ild (.iload 5) 5, o_icmpne 7 107, o_int (.iconst 1) 1, o_goto 4 108] else
  if p = 107 then [o_int (.iconst 0) 0, o_fall 108] else
  if p = 108 then [o_iadd, o_ist (.istore 6) 6, o_inc 7 1, o_goto (-39) 75] else
  if p = 117 then [o_ild (.iload 6) 6, o_iret 0] else
  []
def mX3_image : Nat → List tp_Op := fun p => 
  if p = 0 then [o_ald (.aload_n 0) 0, o_getf (.getfield 7) 3 3, o_ald (.aload_n 0) 0, o_getf (.getfield 13) 3 4, o_cs (.invokestatic 86) kX3_copyRow 2 0, o_ald (.aload_n 0) 0, o_getf (.getfield 7) 3 3, o_int (.iconst 0) 0, o_lda .iaload [0, 20], o_iret 0] else
  []
def mX3_back : Nat → List tp_Op := fun p => 
  if p = 0 then [o_ald (.aload_n 0) 0, o_getf (.getfield 13) 3 4, o_ald (.aload_n 0) 0, o_getf (.getfield 7) 3 3, o_cs (.invokestatic 86) kX3_copyRow 2 0, o_ald (.aload_n 0) 0, o_getf (.getfield 7) 3 3, o_int (.iconst 0) 0, o_lda .iaload [0, 20], o_iret 0] else
  []
def mX3_about : Nat → List tp_Op := fun p => 
  if p = 0 then [o_ild (.iload_n 1) 1, o_sw (.tableswitch 144 0 11 #[63, 68, 73, 80, 87, 94, 101, 108, 115, 123, 131, 136]) [(0, 64), (1, 69), (2, 74), (3, 81), (4, 88), (5, 95), (6, 102), (7, 109), (8, 116), (9, 124), (10, 132), (11, 137)] 145] else
  if p = 64 then [o_ald (.aload_n 0) 0, o_getf (.getfield 77) 3 0, o_iret 0] else
  if p = 69 then [o_ald (.aload_n 0) 0, o_getf (.getfield 80) 3 1, o_iret 0] else
  if p = 74 then [o_ald (.aload_n 0) 0, o_getf (.getfield 7) 3 3, o_int (.iconst 0) 0, o_lda .iaload [0, 20], o_iret 0] else
  if p = 81 then [o_ald (.aload_n 0) 0, o_getf (.getfield 7) 3 3, o_int (.iconst 1) 1, o_lda .iaload [0, 20], o_iret 0] else
  if p = 88 then [o_ald (.aload_n 0) 0, o_getf (.getfield 7) 3 3, o_int (.iconst 2) 2, o_lda .iaload [0, 20], o_iret 0] else
  if p = 95 then [o_ald (.aload_n 0) 0, o_getf (.getfield 7) 3 3, o_int (.iconst 3) 3, o_lda .iaload [0, 20], o_iret 0] else
  if p = 102 then [o_ald (.aload_n 0) 0, o_getf (.getfield 7) 3 3, o_int (.iconst 4) 4, o_lda .iaload [0, 20], o_iret 0] else
  if p = 109 then [o_ald (.aload_n 0) 0, o_getf (.getfield 7) 3 3, o_int (.iconst 5) 5, o_lda .iaload [0, 20], o_iret 0] else
  if p = 116 then [o_ald (.aload_n 0) 0, o_getf (.getfield 7) 3 3, o_int (.bipush 6) 6, o_lda .iaload [0, 20], o_iret 0] else
  if p = 124 then [o_ald (.aload_n 0) 0, o_getf (.getfield 7) 3 3, o_int (.bipush 7) 7, o_lda .iaload [0, 20], o_iret 0] else
  if p = 132 then [o_ald (.aload_n 0) 0, o_getf (.getfield 112) 3 7, o_iret 0] else
  if p = 137 then [o_ald (.aload_n 0) 0, o_getf (.getfield 7) 3 3, o_int (.bipush 8) 8, o_lda .iaload [0, 20], o_iret 0] else
  if p = 145 then [o_int (.bipush (-2)) (-2), o_iret 0] else
  []
def mX4_init : Nat → List tp_Op := fun p => 
  if p = 0 then [o_ald (.aload_n 0) 0, o_objinit (.invokespecial 3), o_ald (.aload_n 0) 0, o_ald (.aload_n 1) 1, o_putf (.putfield 9) 4 0 4, o_ald (.aload_n 0) 0, o_ild (.iload_n 2) 2, o_putf (.putfield 15) 4 1 0, o_vret] else
  []
def mX4_read : Nat → List tp_Op := fun p => 
  if p = 0 then [o_new (.new 80) 5 7 [xN, xN, xN, xN, xN, xN, xI 0], o_dup, o_cp (.invokespecial 82) kX5_init 0 0, o_ast (.astore_n 1) 1, o_ald (.aload_n 0) 0, o_cv (.invokevirtual 74) 4 kX4_next 0 0, o_fall 12] else
  if p = 12 then [o_ald (.aload_n 0) 0, o_getf (.getfield 25) 4 4, o_int (.sipush 301) 301, o_icmpeq 121 140, o_ald (.aload_n 0) 0, o_getf (.getfield 25) 4 4, o_int (.sipush 200) 200, o_icmplt 13 42, o_ald (.aload_n 0) 0, o_getf (.getfield 25) 4 4, o_int (.sipush 205) 205, o_icmple 9 48, o_fall 42] else
  if p = 42 then [o_ald (.aload_n 0) 0, o_int (.iconst 1) 1, o_cv (.invokevirtual 70) 4 kX4_wrong 1 0, o_thr] else
  if p = 48 then [o_ald (.aload_n 0) 0, o_ald (.aload_n 0) 0, o_getf (.getfield 25) 4 4, o_putf (.putfield 83) 4 7 0, o_ald (.aload_n 0) 0, o_getf (.getfield 83) 4 7, o_int (.sipush 204) 204, o_icmpne 10 73, o_ald (.aload_n 1) 1, o_getf (.getfield 86) 5 4, o_ifnon 20 90, o_fall 73] else
  if p = 73 then [o_ald (.aload_n 0) 0, o_getf (.getfield 83) 4 7, o_int (.sipush 205) 205, o_icmpne 16 96, o_ald (.aload_n 1) 1, o_getf (.getfield 90) 5 5, o_ifnull 9 96, o_fall 90] else
  if p = 90 then [o_ald (.aload_n 0) 0, o_int (.iconst 4) 4, o_cv (.invokevirtual 70) 4 kX4_wrong 1 0, o_thr] else
  if p = 96 then [o_ald (.aload_n 1) 1, o_getf (.getfield 93) 5 6, o_int (.bipush 12) 12, o_icmpne 10 112, o_ald (.aload_n 0) 0, o_int (.bipush 6) 6, o_cv (.invokevirtual 70) 4 kX4_wrong 1 0, o_thr] else
  if p = 112 then [o_ald (.aload_n 0) 0, o_cv (.invokevirtual 74) 4 kX4_next 0 0, o_ald (.aload_n 0) 0, o_ald (.aload_n 1) 1, o_cv (.invokevirtual 96) 4 kX4_clause 1 1, o_ald (.aload_n 0) 0, o_int (.bipush 59) 59, o_cv (.invokevirtual 100) 4 kX4_want 1 1, o_ald (.aload_n 1) 1, o_dup, o_getf (.getfield 93) 5 6, o_int (.iconst 1) 1, o_iadd, o_putf (.putfield 93) 5 6 0, o_goto (-125) 12] else
  if p = 140 then [o_ald (.aload_n 1) 1, o_aret] else
  []
def mX4_next : Nat → List tp_Op := fun p => 
  if p = 0 then [o_ald (.aload_n 0) 0, o_getf (.getfield 19) 4 2, o_ald (.aload_n 0) 0, o_getf (.getfield 15) 4 1, o_icmpge 44 52, o_ald (.aload_n 0) 0, o_getf (.getfield 9) 4 0, o_ald (.aload_n 0) 0, o_getf (.getfield 19) 4 2, o_lda .baload [1, 2, 22], o_int (.bipush 32) 32, o_icmpeq 17 39, o_ald (.aload_n 0) 0, o_getf (.getfield 9) 4 0, o_ald (.aload_n 0) 0, o_getf (.getfield 19) 4 2, o_lda .baload [1, 2, 22], o_int (.bipush 10) 10, o_icmpne 16 52, o_fall 39] else
  if p = 39 then [o_ald (.aload_n 0) 0, o_dup, o_getf (.getfield 19) 4 2, o_int (.iconst 1) 1, o_iadd, o_putf (.putfield 19) 4 2 0, o_goto (-49) 0] else
  if p = 52 then [o_ald (.aload_n 0) 0, o_ald (.aload_n 0) 0, o_getf (.getfield 19) 4 2, o_putf (.putfield 22) 4 3 0, o_ald (.aload_n 0) 0, o_getf (.getfield 19) 4 2, o_ald (.aload_n 0) 0, o_getf (.getfield 15) 4 1, o_icmpne 13 81, o_ald (.aload_n 0) 0, o_int (.sipush 301) 301, o_putf (.putfield 25) 4 4 0, o_goto 324 402] else
  if p = 81 then [o_ald (.aload_n 0) 0, o_getf (.getfield 9) 4 0, o_ald (.aload_n 0) 0, o_getf (.getfield 19) 4 2, o_lda .baload [1, 2, 22], o_cs (.invokestatic 28) kX4_isLetter 1 0, o_ifeq 89 182, o_fall 96] else
  if p = 96 then [o_ald (.aload_n 0) 0, o_getf (.getfield 19) 4 2, o_ald (.aload_n 0) 0, o_getf (.getfield 15) 4 1, o_icmpge 31 135, o_ald (.aload_n 0) 0, o_getf (.getfield 9) 4 0, o_ald (.aload_n 0) 0, o_getf (.getfield 19) 4 2, o_lda .baload [1, 2, 22], o_cs (.invokestatic 28) kX4_isLetter 1 0, o_ifeq 16 135, o_ald (.aload_n 0) 0, o_dup, o_getf (.getfield 19) 4 2, o_int (.iconst 1) 1, o_iadd, o_putf (.putfield 19) 4 2 0, o_goto (-36) 96] else
  if p = 135 then [o_ald (.aload_n 0) 0, o_int (.sipush 302) 302, o_putf (.putfield 25) 4 4 0, o_int (.iconst 0) 0, o_ist (.istore_n 1) 1, o_fall 144] else
  if p = 144 then [o_ild (.iload_n 1) 1, o_gs (.getstatic 32) 5, o_alen, o_icmpge 30 179, o_ald (.aload_n 0) 0, o_gs (.getstatic 32) 5, o_ild (.iload_n 1) 1, o_lda .aaload [4, 5, 6, 7, 28, 29], o_cv (.invokevirtual 36) 4 kX4_isWord 1 0, o_ifeq 12 173, o_ald (.aload_n 0) 0, o_int (.sipush 200) 200, o_ild (.iload_n 1) 1, o_iadd, o_putf (.putfield 25) 4 4 0, o_fall 173] else
  if p = 173 then [o_inc 1 1, o_goto (-32) 144] else
  if p = 179 then [o_goto 223 402] else
  if p = 182 then [o_ald (.aload_n 0) 0, o_getf (.getfield 9) 4 0, o_ald (.aload_n 0) 0, o_getf (.getfield 19) 4 2, o_lda .baload [1, 2, 22], o_cs (.invokestatic 40) kX4_isDigit 1 0, o_ifeq 83 277, o_ald (.aload_n 0) 0, o_int (.sipush 300) 300, o_putf (.putfield 25) 4 4 0, o_ald (.aload_n 0) 0, o_int (.iconst 0) 0, o_putf (.putfield 43) 4 5 0, o_fall 209] else
  if p = 209 then [o_ald (.aload_n 0) 0, o_getf (.getfield 19) 4 2, o_ald (.aload_n 0) 0, o_getf (.getfield 15) 4 1, o_icmpge 185 402, o_ald (.aload_n 0) 0, o_getf (.getfield 9) 4 0, o_ald (.aload_n 0) 0, o_getf (.getfield 19) 4 2, o_lda .baload [1, 2, 22], o_cs (.invokestatic 40) kX4_isDigit 1 0, o_ifeq 170 402, o_ald (.aload_n 0) 0, o_int (.ldc 46) 99999, o_int (.bipush 10) 10, o_ald (.aload_n 0) 0, o_getf (.getfield 43) 4 5, o_imul, o_ald (.aload_n 0) 0, o_getf (.getfield 9) 4 0, o_ald (.aload_n 0) 0, o_getf (.getfield 19) 4 2, o_lda .baload [1, 2, 22], o_iadd, o_int (.bipush 48) 48, o_isub, o_mmin (.invokestatic 47), o_putf (.putfield 43) 4 5 0, o_ald (.aload_n 0) 0, o_dup, o_getf (.getfield 19) 4 2, o_int (.iconst 1) 1, o_iadd, o_putf (.putfield 19) 4 2 0, o_goto (-65) 209] else
  if p = 277 then [o_ald (.aload_n 0) 0, o_getf (.getfield 9) 4 0, o_ald (.aload_n 0) 0, o_getf (.getfield 19) 4 2, o_lda .baload [1, 2, 22], o_ist (.istore_n 1) 1, o_ald (.aload_n 0) 0, o_dup, o_getf (.getfield 19) 4 2, o_int (.iconst 1) 1, o_iadd, o_putf (.putfield 19) 4 2 0, o_ald (.aload_n 0) 0, o_int (.sipush 302) 302, o_putf (.putfield 25) 4 4 0, o_int (.iconst 0) 0, o_ist (.istore_n 2) 2, o_fall 306] else
  if p = 306 then [o_ild (.iload_n 2) 2, o_gs (.ldc 53) 7, o_cv (.invokevirtual 55) 17 kJ5_length 0 0, o_icmpge 24 336, o_gs (.ldc 53) 7, o_ild (.iload_n 2) 2, o_cv (.invokevirtual 61) 17 kJ5_charAt 1 0, o_ild (.iload_n 1) 1, o_icmpne 8 330, o_ald (.aload_n 0) 0, o_ild (.iload_n 1) 1, o_putf (.putfield 25) 4 4 0, o_fall 330] else
  if p = 330 then [o_inc 2 1, o_goto (-27) 306] else
  if p = 336 then [o_ild (.iload_n 1) 1, o_int (.bipush 60) 60, o_icmpeq 9 348, o_ild (.iload_n 1) 1, o_int (.bipush 62) 62, o_icmpne 57 402, o_fall 348] else
  if p = 348 then [o_ald (.aload_n 0) 0, o_getf (.getfield 19) 4 2, o_ald (.aload_n 0) 0, o_getf (.getfield 15) 4 1, o_icmpge 46 402, o_ald (.aload_n 0) 0, o_getf (.getfield 9) 4 0, o_ald (.aload_n 0) 0, o_getf (.getfield 19) 4 2, o_lda .baload [1, 2, 22], o_int (.bipush 61) 61, o_icmpne 32 402, o_ald (.aload_n 0) 0, o_ild (.iload_n 1) 1, o_int (.bipush 60) 60, o_icmpne 9 386, o_int (.sipush 303) 303, o_goto 6 389] else
  if p = 386 then [o_int (.sipush 304) 304, o_fall 389] else
  if p = 389 then [o_putf (.putfield 25) 4 4 0, o_ald (.aload_n 0) 0, o_dup, o_getf (.getfield 19) 4 2, o_int (.iconst 1) 1, o_iadd, o_putf (.putfield 19) 4 2 0, o_fall 402] else
  if p = 402 then [o_vret] else
  []
def mX4_isLetter : Nat → List tp_Op := fun p => 
  if p = 0 then [o_ild (.iload_n 0) 0, o_int (.bipush 97) 97, o_icmplt 9 12, o_ild (.iload_n 0) 0, o_int (.bipush 122) 122, o_icmple 15 24, o_fall 12] else
  if p = 12 then [o_ild (.iload_n 0) 0, o_int (.bipush 65) 65, o_icmplt 13 28, o_ild (.iload_n 0) 0, o_int (.bipush 90) 90, o_icmpgt 7 28, o_fall 24] else
  if p = 24 then [o_int (.iconst 1) 1, o_goto 4 29] else
  if p = 28 then [o_int (.iconst 0) 0, o_fall 29] else
  if p = 29 then [o_iret 1] else
  []
def mX4_isWord : Nat → List tp_Op := fun p => 
  if p = 0 then [o_ald (.aload_n 0) 0, o_getf (.getfield 19) 4 2, o_ald (.aload_n 0) 0, o_getf (.getfield 22) 4 3, o_isub, o_ald (.aload_n 1) 1, o_cv (.invokevirtual 55) 17 kJ5_length 0 0, o_icmpeq 5 18, o_int (.iconst 0) 0, o_iret 1] else
  if p = 18 then [o_int (.iconst 0) 0, o_ist (.istore_n 2) 2, o_fall 20] else
  if p = 20 then [o_ild (.iload_n 2) 2, o_ald (.aload_n 1) 1, o_cv (.invokevirtual 55) 17 kJ5_length 0 0, o_icmpge 30 55, o_ald (.aload_n 0) 0, o_getf (.getfield 9) 4 0, o_ald (.aload_n 0) 0, o_getf (.getfield 22) 4 3, o_ild (.iload_n 2) 2, o_iadd, o_lda .baload [1, 2, 22], o_ald (.aload_n 1) 1, o_ild (.iload_n 2) 2, o_cv (.invokevirtual 61) 17 kJ5_charAt 1 0, o_icmpeq 5 49, o_int (.iconst 0) 0, o_iret 1] else
  if p = 49 then [o_inc 2 1, o_goto (-32) 20] else
  if p = 55 then [o_int (.iconst 1) 1, o_iret 1] else
  []
def mX4_isDigit : Nat → List tp_Op := fun p => 
  if p = 0 then [o_ild (.iload_n 0) 0, o_int (.bipush 48) 48, o_icmplt 13 16, o_ild (.iload_n 0) 0, o_int (.bipush 57) 57, o_icmpgt 7 16, o_int (.iconst 1) 1, o_goto 4 17] else
  if p = 16 then [o_int (.iconst 0) 0, o_fall 17] else
  if p = 17 then [o_iret 1] else
  []
def mX4_wrong : Nat → List tp_Op := fun p => 
  if p = 0 then [o_new (.new 65) 6 8 [xN, xN, xN, xN, xN, xI 0, xI 0, xI 0], o_dup, o_ild (.iload_n 1) 1, o_ald (.aload_n 0) 0, o_getf (.getfield 22) 4 3, o_cp (.invokespecial 67) kX6_init 2 0, o_aret] else
  []
def mX4_clause : Nat → List tp_Op := fun p => 
  if p = 0 then [o_ald (.aload_n 0) 0, o_getf (.getfield 83) 4 7, o_sw (.tableswitch 107 200 205 #[40, 55, 70, 107, 85, 96]) [(200, 44), (201, 59), (202, 74), (203, 111), (204, 89), (205, 100)] 111] else
  if p = 44 then [o_ald (.aload_n 1) 1, o_getf (.getfield 104) 5 0, o_ald (.aload_n 0) 0, o_cv (.invokevirtual 108) 4 kX4_either 0 1, o_cv (.invokevirtual 112) 15 kJ4_add 1 0, o_pop, o_goto 90 146] else
  if p = 59 then [o_ald (.aload_n 1) 1, o_getf (.getfield 118) 5 1, o_ald (.aload_n 0) 0, o_cv (.invokevirtual 108) 4 kX4_either 0 1, o_cv (.invokevirtual 112) 15 kJ4_add 1 0, o_pop, o_goto 75 146] else
  if p = 74 then [o_ald (.aload_n 1) 1, o_getf (.getfield 121) 5 2, o_ald (.aload_n 0) 0, o_cv (.invokevirtual 108) 4 kX4_either 0 1, o_cv (.invokevirtual 112) 15 kJ4_add 1 0, o_pop, o_goto 60 146] else
  if p = 89 then [o_ald (.aload_n 1) 1, o_ald (.aload_n 0) 0, o_cv (.invokevirtual 124) 4 kX4_sum 0 1, o_putf (.putfield 86) 5 4 4, o_goto 49 146] else
  if p = 100 then [o_ald (.aload_n 1) 1, o_ald (.aload_n 0) 0, o_cv (.invokevirtual 124) 4 kX4_sum 0 1, o_putf (.putfield 90) 5 5 4, o_goto 38 146] else
  if p = 111 then [o_ald (.aload_n 0) 0, o_int (.iconst 0) 0, o_int (.bipush 7) 7, o_cv (.invokevirtual 128) 4 kX4_number 2 1, o_ist (.istore_n 2) 2, o_ald (.aload_n 0) 0, o_int (.sipush 206) 206, o_cv (.invokevirtual 100) 4 kX4_want 1 1, o_ald (.aload_n 1) 1, o_getf (.getfield 130) 5 3, o_new (.new 133) 14 2 [xI 0, xN], o_dup, o_ild (.iload_n 2) 2, o_ald (.aload_n 0) 0, o_cv (.invokevirtual 108) 4 kX4_either 0 1, o_cp (.invokespecial 135) kX14_init 2 0, o_cv (.invokevirtual 112) 15 kJ4_add 1 0, o_pop, o_fall 146] else
  if p = 146 then [o_vret] else
  []
def mX4_either : Nat → List tp_Op := fun p => 
  if p = 0 then [o_new (.new 113) 15 3 [xI 0, xN, xI 0], o_dup, o_cp (.invokespecial 138) kJ4_init 0 0, o_ast (.astore_n 1) 1, o_ald (.aload_n 1) 1, o_ald (.aload_n 0) 0, o_cv (.invokevirtual 139) 4 kX4_both 0 1, o_cv (.invokevirtual 112) 15 kJ4_add 1 0, o_pop, o_fall 17] else
  if p = 17 then [o_ald (.aload_n 0) 0, o_getf (.getfield 25) 4 4, o_int (.sipush 207) 207, o_icmpne 19 43, o_ald (.aload_n 0) 0, o_cv (.invokevirtual 74) 4 kX4_next 0 0, o_ald (.aload_n 1) 1, o_ald (.aload_n 0) 0, o_cv (.invokevirtual 139) 4 kX4_both 0 1, o_cv (.invokevirtual 112) 15 kJ4_add 1 0, o_pop, o_goto (-23) 17] else
  if p = 43 then [o_ald (.aload_n 1) 1, o_cv (.invokevirtual 142) 15 kJ4_size 0 0, o_int (.iconst 1) 1, o_icmpne 14 62, o_ald (.aload_n 1) 1, o_int (.iconst 0) 0, o_cv (.invokevirtual 144) 15 kJ4_get 1 0, o_cast (.checkcast 148) [7, 12, 13], o_goto 12 71] else
  if p = 62 then [o_new (.new 150) 13 2 [xI 0, xN], o_dup, o_int (.iconst 0) 0, o_ald (.aload_n 1) 1, o_cp (.invokespecial 152) kX13_init 2 0, o_fall 71] else
  if p = 71 then [o_aret] else
  []
def mX4_both : Nat → List tp_Op := fun p => 
  if p = 0 then [o_new (.new 113) 15 3 [xI 0, xN, xI 0], o_dup, o_cp (.invokespecial 138) kJ4_init 0 0, o_ast (.astore_n 1) 1, o_ald (.aload_n 1) 1, o_ald (.aload_n 0) 0, o_cv (.invokevirtual 155) 4 kX4_ask 0 1, o_cv (.invokevirtual 112) 15 kJ4_add 1 0, o_pop, o_fall 17] else
  if p = 17 then [o_ald (.aload_n 0) 0, o_getf (.getfield 25) 4 4, o_int (.sipush 208) 208, o_icmpne 19 43, o_ald (.aload_n 0) 0, o_cv (.invokevirtual 74) 4 kX4_next 0 0, o_ald (.aload_n 1) 1, o_ald (.aload_n 0) 0, o_cv (.invokevirtual 155) 4 kX4_ask 0 1, o_cv (.invokevirtual 112) 15 kJ4_add 1 0, o_pop, o_goto (-23) 17] else
  if p = 43 then [o_ald (.aload_n 1) 1, o_cv (.invokevirtual 142) 15 kJ4_size 0 0, o_int (.iconst 1) 1, o_icmpne 14 62, o_ald (.aload_n 1) 1, o_int (.iconst 0) 0, o_cv (.invokevirtual 144) 15 kJ4_get 1 0, o_cast (.checkcast 148) [7, 12, 13], o_goto 12 71] else
  if p = 62 then [o_new (.new 150) 13 2 [xI 0, xN], o_dup, o_int (.iconst 1) 1, o_ald (.aload_n 1) 1, o_cp (.invokespecial 152) kX13_init 2 0, o_fall 71] else
  if p = 71 then [o_aret] else
  []
def mX4_ask : Nat → List tp_Op := fun p => 
  if p = 0 then [o_ald (.aload_n 0) 0, o_getf (.getfield 25) 4 4, o_int (.sipush 209) 209, o_icmpne 31 38, o_ald (.aload_n 0) 0, o_cv (.invokevirtual 158) 4 kX4_opens 0 1, o_new (.new 161) 7 1 [xN], o_dup, o_ald (.aload_n 0) 0, o_cv (.invokevirtual 155) 4 kX4_ask 0 1, o_cp (.invokespecial 163) kX7_init 1 0, o_ast (.astore_n 1) 1, o_ald (.aload_n 0) 0, o_dup, o_getf (.getfield 77) 4 6, o_int (.iconst 1) 1, o_isub, o_putf (.putfield 77) 4 6 0, o_ald (.aload_n 1) 1, o_aret] else
  if p = 38 then [o_ald (.aload_n 0) 0, o_cv (.invokevirtual 124) 4 kX4_sum 0 1, o_ast (.astore_n 1) 1, o_ald (.aload_n 0) 0, o_getf (.getfield 25) 4 4, o_ist (.istore_n 2) 2, o_ild (.iload_n 2) 2, o_int (.bipush 60) 60, o_icmpeq 41 92, o_ild (.iload_n 2) 2, o_int (.bipush 62) 62, o_icmpeq 35 92, o_ild (.iload_n 2) 2, o_int (.bipush 61) 61, o_icmpeq 29 92, o_ild (.iload_n 2) 2, o_int (.bipush 35) 35, o_icmpeq 23 92, o_ild (.iload_n 2) 2, o_int (.sipush 303) 303, o_icmpeq 16 92, o_ild (.iload_n 2) 2, o_int (.sipush 304) 304, o_icmpeq 9 92, o_ald (.aload_n 0) 0, o_int (.iconst 1) 1, o_cv (.invokevirtual 70) 4 kX4_wrong 1 0, o_thr] else
  if p = 92 then [o_ald (.aload_n 0) 0, o_cv (.invokevirtual 74) 4 kX4_next 0 0, o_new (.new 166) 12 3 [xI 0, xN, xN], o_dup, o_ild (.iload_n 2) 2, o_ald (.aload_n 1) 1, o_ald (.aload_n 0) 0, o_cv (.invokevirtual 124) 4 kX4_sum 0 1, o_cp (.invokespecial 168) kX12_init 3 0, o_aret] else
  []
def mX4_opens : Nat → List tp_Op := fun p => 
  if p = 0 then [o_ald (.aload_n 0) 0, o_getf (.getfield 77) 4 6, o_int (.bipush 8) 8, o_icmpne 9 15, o_ald (.aload_n 0) 0, o_int (.iconst 3) 3, o_cv (.invokevirtual 70) 4 kX4_wrong 1 0, o_thr] else
  if p = 15 then [o_ald (.aload_n 0) 0, o_dup, o_getf (.getfield 77) 4 6, o_int (.iconst 1) 1, o_iadd, o_putf (.putfield 77) 4 6 0, o_ald (.aload_n 0) 0, o_cv (.invokevirtual 74) 4 kX4_next 0 0, o_vret] else
  []
def mX4_sum : Nat → List tp_Op := fun p => 
  if p = 0 then [o_new (.new 171) 8 3 [xN, xN, xN], o_dup, o_ald (.aload_n 0) 0, o_cv (.invokevirtual 173) 4 kX4_product 0 1, o_cp (.invokespecial 176) kX8_init 1 0, o_ast (.astore_n 1) 1, o_fall 12] else
  if p = 12 then [o_ald (.aload_n 0) 0, o_getf (.getfield 25) 4 4, o_int (.bipush 43) 43, o_icmpeq 12 30, o_ald (.aload_n 0) 0, o_getf (.getfield 25) 4 4, o_int (.bipush 45) 45, o_icmpne 24 51, o_fall 30] else
  if p = 30 then [o_ald (.aload_n 0) 0, o_getf (.getfield 25) 4 4, o_ist (.istore_n 2) 2, o_ald (.aload_n 0) 0, o_cv (.invokevirtual 74) 4 kX4_next 0 0, o_ald (.aload_n 1) 1, o_ild (.iload_n 2) 2, o_ald (.aload_n 0) 0, o_cv (.invokevirtual 173) 4 kX4_product 0 1, o_cv (.invokevirtual 179) 8 kX8_add 2 0, o_goto (-36) 12] else
  if p = 51 then [o_ald (.aload_n 1) 1, o_cv (.invokevirtual 182) 8 kX8_itself 0 0, o_aret] else
  []
def mX4_product : Nat → List tp_Op := fun p => 
  if p = 0 then [o_new (.new 171) 8 3 [xN, xN, xN], o_dup, o_ald (.aload_n 0) 0, o_cv (.invokevirtual 185) 4 kX4_one 0 1, o_cp (.invokespecial 176) kX8_init 1 0, o_ast (.astore_n 1) 1, o_fall 12] else
  if p = 12 then [o_ald (.aload_n 0) 0, o_getf (.getfield 25) 4 4, o_int (.bipush 42) 42, o_icmpeq 12 30, o_ald (.aload_n 0) 0, o_getf (.getfield 25) 4 4, o_int (.bipush 47) 47, o_icmpne 24 51, o_fall 30] else
  if p = 30 then [o_ald (.aload_n 0) 0, o_getf (.getfield 25) 4 4, o_ist (.istore_n 2) 2, o_ald (.aload_n 0) 0, o_cv (.invokevirtual 74) 4 kX4_next 0 0, o_ald (.aload_n 1) 1, o_ild (.iload_n 2) 2, o_ald (.aload_n 0) 0, o_cv (.invokevirtual 185) 4 kX4_one 0 1, o_cv (.invokevirtual 179) 8 kX8_add 2 0, o_goto (-36) 12] else
  if p = 51 then [o_ald (.aload_n 1) 1, o_cv (.invokevirtual 182) 8 kX8_itself 0 0, o_aret] else
  []
def mX4_one : Nat → List tp_Op := fun p => 
  if p = 0 then [o_ald (.aload_n 0) 0, o_getf (.getfield 25) 4 4, o_int (.sipush 300) 300, o_icmpne 19 26, o_new (.new 188) 9 1 [xI 0], o_dup, o_ald (.aload_n 0) 0, o_int (.iconst 0) 0, o_int (.sipush 999) 999, o_cv (.invokevirtual 128) 4 kX4_number 2 1, o_cp (.invokespecial 190) kX9_init 1 0, o_aret] else
  if p = 26 then [o_ald (.aload_n 0) 0, o_getf (.getfield 25) 4 4, o_int (.sipush 210) 210, o_icmplt 61 94, o_ald (.aload_n 0) 0, o_getf (.getfield 25) 4 4, o_int (.sipush 220) 220, o_icmpgt 51 94, o_ald (.aload_n 0) 0, o_getf (.getfield 25) 4 4, o_int (.sipush 219) 219, o_icmplt 19 72, o_ald (.aload_n 0) 0, o_getf (.getfield 83) 4 7, o_int (.sipush 203) 203, o_icmpeq 9 72, o_ald (.aload_n 0) 0, o_int (.iconst 5) 5, o_cv (.invokevirtual 70) 4 kX4_wrong 1 0, o_thr] else
  if p = 72 then [o_new (.new 192) 10 1 [xI 0], o_dup, o_ald (.aload_n 0) 0, o_getf (.getfield 25) 4 4, o_int (.sipush 210) 210, o_isub, o_cp (.invokespecial 194) kX10_init 1 0, o_ast (.astore_n 1) 1, o_ald (.aload_n 0) 0, o_cv (.invokevirtual 74) 4 kX4_next 0 0, o_ald (.aload_n 1) 1, o_aret] else
  if p = 94 then [o_ald (.aload_n 0) 0, o_getf (.getfield 25) 4 4, o_int (.bipush 40) 40, o_icmpne 21 121, o_ald (.aload_n 0) 0, o_cv (.invokevirtual 158) 4 kX4_opens 0 1, o_ald (.aload_n 0) 0, o_cv (.invokevirtual 124) 4 kX4_sum 0 1, o_ast (.astore_n 1) 1, o_ald (.aload_n 0) 0, o_int (.bipush 41) 41, o_cv (.invokevirtual 100) 4 kX4_want 1 1, o_goto 37 155] else
  if p = 121 then [o_ald (.aload_n 0) 0, o_getf (.getfield 25) 4 4, o_int (.bipush 45) 45, o_icmpne 22 149, o_ald (.aload_n 0) 0, o_cv (.invokevirtual 158) 4 kX4_opens 0 1, o_new (.new 195) 11 1 [xN], o_dup, o_ald (.aload_n 0) 0, o_cv (.invokevirtual 185) 4 kX4_one 0 1, o_cp (.invokespecial 197) kX11_init 1 0, o_ast (.astore_n 1) 1, o_goto 9 155] else
  if p = 149 then [o_ald (.aload_n 0) 0, o_int (.iconst 1) 1, o_cv (.invokevirtual 70) 4 kX4_wrong 1 0, o_thr] else
  if p = 155 then [o_ald (.aload_n 0) 0, o_dup, o_getf (.getfield 77) 4 6, o_int (.iconst 1) 1, o_isub, o_putf (.putfield 77) 4 6 0, o_ald (.aload_n 1) 1, o_aret] else
  []
def mX4_number : Nat → List tp_Op := fun p => 
  if p = 0 then [o_ald (.aload_n 0) 0, o_getf (.getfield 25) 4 4, o_int (.sipush 300) 300, o_icmpeq 9 16, o_ald (.aload_n 0) 0, o_int (.iconst 1) 1, o_cv (.invokevirtual 70) 4 kX4_wrong 1 0, o_thr] else
  if p = 16 then [o_ald (.aload_n 0) 0, o_getf (.getfield 43) 4 5, o_ild (.iload_n 1) 1, o_icmplt 11 32, o_ald (.aload_n 0) 0, o_getf (.getfield 43) 4 5, o_ild (.iload_n 2) 2, o_icmple 9 38, o_fall 32] else
  if p = 32 then [o_ald (.aload_n 0) 0, o_int (.iconst 2) 2, o_cv (.invokevirtual 70) 4 kX4_wrong 1 0, o_thr] else
  if p = 38 then [o_ald (.aload_n 0) 0, o_getf (.getfield 43) 4 5, o_ist (.istore_n 3) 3, o_ald (.aload_n 0) 0, o_cv (.invokevirtual 74) 4 kX4_next 0 0, o_ild (.iload_n 3) 3, o_iret 0] else
  []
def mX4_want : Nat → List tp_Op := fun p => 
  if p = 0 then [o_ald (.aload_n 0) 0, o_getf (.getfield 25) 4 4, o_ild (.iload_n 1) 1, o_icmpeq 9 14, o_ald (.aload_n 0) 0, o_int (.iconst 1) 1, o_cv (.invokevirtual 70) 4 kX4_wrong 1 0, o_thr] else
  if p = 14 then [o_ald (.aload_n 0) 0, o_cv (.invokevirtual 74) 4 kX4_next 0 0, o_vret] else
  []
def mX5_init : Nat → List tp_Op := fun p => 
  if p = 0 then [o_ald (.aload_n 0) 0, o_objinit (.invokespecial 1), o_ald (.aload_n 0) 0, o_new (.new 7) 15 3 [xI 0, xN, xI 0], o_dup, o_cp (.invokespecial 9) kJ4_init 0 0, o_putf (.putfield 10) 5 0 4, o_ald (.aload_n 0) 0, o_new (.new 7) 15 3 [xI 0, xN, xI 0], o_dup, o_cp (.invokespecial 9) kJ4_init 0 0, o_putf (.putfield 16) 5 1 4, o_ald (.aload_n 0) 0, o_new (.new 7) 15 3 [xI 0, xN, xI 0], o_dup, o_cp (.invokespecial 9) kJ4_init 0 0, o_putf (.putfield 19) 5 2 4, o_ald (.aload_n 0) 0, o_new (.new 7) 15 3 [xI 0, xN, xI 0], o_dup, o_cp (.invokespecial 9) kJ4_init 0 0, o_putf (.putfield 22) 5 3 4, o_vret] else
  []
def mX5_some : Nat → List tp_Op := fun p => 
  if p = 0 then [o_int (.iconst 0) 0, o_ist (.istore_n 2) 2, o_fall 2] else
  if p = 2 then [o_ild (.iload_n 2) 2, o_ald (.aload_n 0) 0, o_cv (.invokevirtual 25) 15 kJ4_size 0 0, o_icmpge 28 35, o_ald (.aload_n 0) 0, o_ild (.iload_n 2) 2, o_cv (.invokevirtual 29) 15 kJ4_get 1 0, o_cast (.checkcast 33) [7, 12, 13], o_ald (.aload_n 1) 1, o_ci (.invokeinterface 35 2) [(7, kX7_is), (12, kX12_is), (13, kX13_is)] 1 0, o_ifeq 5 29, o_int (.iconst 1) 1, o_iret 1] else
  if p = 29 then [o_inc 2 1, o_goto (-30) 2] else
  if p = 35 then [o_int (.iconst 0) 0, o_iret 1] else
  []
def mX6_init : Nat → List tp_Op := fun p => 
  if p = 0 then [o_ald (.aload_n 0) 0, o_excinit (.invokespecial 1), o_ald (.aload_n 0) 0, o_ild (.iload_n 1) 1, o_putf (.putfield 7) 6 6 0, o_ald (.aload_n 0) 0, o_ild (.iload_n 2) 2, o_putf (.putfield 13) 6 7 0, o_vret] else
  []
def mX7_init : Nat → List tp_Op := fun p => 
  if p = 0 then [o_ald (.aload_n 0) 0, o_cp (.invokespecial 1) kJ11_init 0 0, o_ald (.aload_n 0) 0, o_ald (.aload_n 1) 1, o_putf (.putfield 7) 7 0 4, o_vret] else
  []
def mX7_is : Nat → List tp_Op := fun p => 
  if p = 0 then [o_ald (.aload_n 0) 0, o_getf (.getfield 7) 7 0, o_ald (.aload_n 1) 1, o_ci (.invokeinterface 13 2) [(7, kX7_is), (12, kX12_is), (13, kX13_is)] 1 0, o_ifne 7 17, o_int (.iconst 1) 1, o_goto 4 18] else
  if p = 17 then [o_int (.iconst 0) 0, o_fall 18] else
  if p = 18 then [o_iret 1] else
  []
def mX8_init : Nat → List tp_Op := fun p => 
  if p = 0 then [o_ald (.aload_n 0) 0, o_objinit (.invokespecial 3), o_ald (.aload_n 0) 0, o_new (.new 9) 15 3 [xI 0, xN, xI 0], o_dup, o_cp (.invokespecial 11) kJ4_init 0 0, o_putf (.putfield 12) 8 1 4, o_ald (.aload_n 0) 0, o_new (.new 9) 15 3 [xI 0, xN, xI 0], o_dup, o_cp (.invokespecial 11) kJ4_init 0 0, o_putf (.putfield 18) 8 2 4, o_ald (.aload_n 0) 0, o_ald (.aload_n 1) 1, o_putf (.putfield 21) 8 0 4, o_vret] else
  []
def mX8_add : Nat → List tp_Op := fun p => 
  if p = 0 then [o_ald (.aload_n 0) 0, o_getf (.getfield 18) 8 2, o_ild (.iload_n 1) 1, o_cs (.invokestatic 25) kJ13_valueOf 1 0, o_cv (.invokevirtual 31) 15 kJ4_add 1 0, o_pop, o_ald (.aload_n 0) 0, o_getf (.getfield 12) 8 1, o_ald (.aload_n 2) 2, o_cv (.invokevirtual 31) 15 kJ4_add 1 0, o_pop, o_vret] else
  []
def mX8_itself : Nat → List tp_Op := fun p => 
  if p = 0 then [o_ald (.aload_n 0) 0, o_getf (.getfield 12) 8 1, o_cv (.invokevirtual 35) 15 kJ4_isEmpty 0 0, o_ifeq 10 17, o_ald (.aload_n 0) 0, o_getf (.getfield 21) 8 0, o_goto 4 18] else
  if p = 17 then [o_ald (.aload_n 0) 0, o_fall 18] else
  if p = 18 then [o_aret] else
  []
def mX8_of : Nat → List tp_Op := fun p => 
  if p = 0 then [o_ald (.aload_n 0) 0, o_getf (.getfield 21) 8 0, o_ald (.aload_n 1) 1, o_ci (.invokeinterface 39 2) [(8, kX8_of), (9, kX9_of), (10, kX10_of), (11, kX11_of)] 1 0, o_lst (.lstore_n 2) 2, o_int (.iconst 0) 0, o_ist (.istore 4) 4, o_fall 14] else
  if p = 14 then [o_ild (.iload 4) 4, o_ald (.aload_n 0) 0, o_getf (.getfield 12) 8 1, o_cv (.invokevirtual 45) 15 kJ4_size 0 0, o_icmpge 120 143, o_ald (.aload_n 0) 0, o_getf (.getfield 12) 8 1, o_ild (.iload 4) 4, o_cv (.invokevirtual 49) 15 kJ4_get 1 0, o_cast (.checkcast 40) [8, 9, 10, 11], o_ald (.aload_n 1) 1, o_ci (.invokeinterface 39 2) [(8, kX8_of), (9, kX9_of), (10, kX10_of), (11, kX11_of)] 1 0, o_lst (.lstore 5) 5, o_ald (.aload_n 0) 0, o_getf (.getfield 18) 8 2, o_ild (.iload 4) 4, o_cv (.invokevirtual 49) 15 kJ4_get 1 0, o_cast (.checkcast 26) [16], o_cv (.invokevirtual 53) 16 kJ13_intValue 0 0, o_ist (.istore 7) 7, o_ild (.iload 7) 7, o_int (.bipush 43) 43, o_icmpne 10 77, o_lld (.lload_n 2) 2, o_lld (.lload 5) 5, o_ladd, o_goto 46 120] else
  if p = 77 then [o_ild (.iload 7) 7, o_int (.bipush 45) 45, o_icmpne 10 91, o_lld (.lload_n 2) 2, o_lld (.lload 5) 5, o_lsub, o_goto 32 120] else
  if p = 91 then [o_ild (.iload 7) 7, o_int (.bipush 42) 42, o_icmpne 10 105, o_lld (.lload_n 2) 2, o_lld (.lload 5) 5, o_lmul, o_goto 18 120] else
  if p = 105 then [o_lld (.lload 5) 5, o_lng (.lconst 0) 0, o_lcmp, o_ifne 7 116, o_lng (.lconst 0) 0, o_goto 7 120] else
  if p = 116 then [o_lld (.lload_n 2) 2, o_lld (.lload 5) 5, o_ldiv, o_fall 120] else
  if p = 120 then [o_lst (.lstore 8) 8, o_lng (.ldc2_w 56) (-1000000), o_lng (.ldc2_w 58) 1000000, o_lld (.lload 8) 8, o_lmin (.invokestatic 60), o_lmax (.invokestatic 66), o_lst (.lstore_n 2) 2, o_inc 4 1, o_goto (-126) 14] else
  if p = 143 then [o_lld (.lload_n 2) 2, o_lret] else
  []
def mX9_init : Nat → List tp_Op := fun p => 
  if p = 0 then [o_ald (.aload_n 0) 0, o_cp (.invokespecial 1) kJ11_init 0 0, o_ald (.aload_n 0) 0, o_ild (.iload_n 1) 1, o_putf (.putfield 7) 9 0 0, o_vret] else
  []
def mX9_of : Nat → List tp_Op := fun p => 
  if p = 0 then [o_ald (.aload_n 0) 0, o_getf (.getfield 7) 9 0, o_i2l, o_lret] else
  []
def tp_ms : List (Nat → List tp_Op) := [mJ0_fill, mJ0_copyOf, mJ0_copyOf_2, mJ0_fill_2, mJ0_rangeCheck, mJ11_init, mJ12_init, mJ13_valueOf, mJ13_init, mJ13_intValue, mJ14_newLength, mJ15_checkIndex, mJ2_init, mJ3_init, mJ4_init, mJ4_add, mJ4_add_2, mJ4_grow, mJ4_grow_2, mJ4_isEmpty, mJ4_size, mJ4_get, mJ4_elementData, mJ5_length, mJ5_coder, mJ5_charAt, mJ5_isLatin1, mJ5_checkIndex, mJ6_charAt, mJ7_checkIndex, mL_law, mX0_cell, mX1_init, mX1_ice, mX1_isCell, mX1_in, mX1_iceAt, mX1_mark, mX1_edge, mX1_drift, mX1_isWind, mX1_chances, mX1_ship, mX1_costs, mX1_wind, mX1_feed, mX1_put, mX1_end, mX1_text, mX1_fault, mX1_by, mX1_isText, mX1_can, mX1_isOrder, mX1_costOf, mX1_dx, mX1_dy, mX1_beside, mX1_may, mX1_rules, mX1_names, mX1_costOf_2, mX1_watch, mX1_does, mX1_goes, mX1_drifts, mX1_nips, mX1_of, mX1_soonest, mX1_ship_2, mX1_laysAhead, mX1_laysSea, mX1_soonest_2, mX1_soonestBy, mX1_costAt, mX1_windAt, mX1_cellBehind, mX1_nippedAt, mX1_fires, mX1_least, mX1_ahead, mX1_many, mX1_order, mX1_told, mX1_laysPath, mX1_home, mX1_last, mX1_comesHome, mX1_walk, mX1_walkFrom, mX1_walks, mX1_leave, mX1_winter, mX1_nipsFrom, mX1_surest, mX1_surest_2, mX1_surestBy, mX1_known, mX1_leads, mX1_prior, mX1_isClass, mX1_look, mX1_think, mX1_run, mX1_isRun, mX1_runs, mX1_orderBy, mX1_runs_2, mX1_image, mX1_back, mX1_about, mX10_init, mX10_of, mX11_init, mX11_of, mX12_init, mX12_is, mX13_init, mX13_is, mX14_init, mX14_when, mX14_order, mX2_init, mX2_be, mX2_copy, mX2_copy_2, mX3_init, mX3_copyRow, mX3_ice, mX3_isCell, mX3_isIn, mX3_iceAt, mX3_mark, mX3_edge, mX3_drift, mX3_isWind, mX3_chances, mX3_ship, mX3_isShip, mX3_ofShip, mX3_costs, mX3_wind, mX3_feed, mX3_four, mX3_end, mX3_text, mX3_readText, mX3_nextToken, mX3_byteAt, mX3_isDigit, mX3_isLetter, mX3_clause, mX3_sortOf, mX3_w3, mX3_isWord, mX3_w4, mX3_goesBy, mX3_summed, mX3_goesOn, mX3_hasParen, mX3_behindOne, mX3_settle, mX3_emit, mX3_push, mX3_whole, mX3_beginOne, mX3_nameOf, mX3_w5, mX3_w6, mX3_isBarred, mX3_either, mX3_asks, mX3_compareOf, mX3_fault, mX3_by, mX3_can, mX3_isOrder, mX3_isFree, mX3_layNow, mX3_costOf, mX3_orderCost, mX3_pushed, mX3_besideBy, mX3_pushCost, mX3_nameCell, mX3_iceOf, mX3_isAny, mX3_clauses, mX3_sortAt, mX3_work, mX3_two, mX3_clip, mX3_isAsked, mX3_sumOf, mX3_watch, mX3_does, mX3_firesBehind, mX3_go, mX3_driven, mX3_floatShip, mX3_drifted, mX3_nips, mX3_of, mX3_ahead, mX3_many, mX3_soonest, mX3_findOut, mX3_look, mX3_windBefore, mX3_stateAt, mX3_bestOut, mX3_outBy, mX3_costAhead, mX3_cellAhead, mX3_shipCell, mX3_shipCoal, mX3_shipBanked, mX3_least, mX3_order, mX3_told, mX3_follow, mX3_home, mX3_last, mX3_canHome, mX3_walk, mX3_walkFrom, mX3_walkOn, mX3_walks, mX3_leave, mX3_winter, mX3_winterAt, mX3_surest, mX3_hope, mX3_isWayOut, mX3_hopeBehind, mX3_chanceOf, mX3_behind, mX3_hopeOne, mX3_hopeTwo, mX3_known, mX3_leads, mX3_prior, mX3_look_2, mX3_think, mX3_weigh, mX3_run, mX3_isText, mX3_runAll, mX3_orderBy, mX3_canRun, mX3_drawWind, mX3_runOne, mX3_runs, mX3_image, mX3_back, mX3_about, mX4_init, mX4_read, mX4_next, mX4_isLetter, mX4_isWord, mX4_isDigit, mX4_wrong, mX4_clause, mX4_either, mX4_both, mX4_ask, mX4_opens, mX4_sum, mX4_product, mX4_one, mX4_number, mX4_want, mX5_init, mX5_some, mX6_init, mX7_init, mX7_is, mX8_init, mX8_add, mX8_itself, mX8_of, mX9_init, mX9_of]
def tp_B (k p : Nat) : List tp_Op := (tp_ms[k]?.getD (fun _ => [])) p
def tp_mls : List Nat := [4, 2, 4, 5, 3, 1, 1, 1, 2, 1, 4, 2, 1, 1, 1, 2, 4, 1, 4, 1, 1, 2, 2, 1, 1, 2, 1, 2, 2, 3, 4, 2, 3, 3, 2, 3, 2, 4, 2, 4, 1, 8, 5, 5, 2, 6, 3, 2, 5, 2, 2, 2, 4, 1, 10, 1, 1, 6, 6, 1, 7, 6, 12, 4, 7, 4, 6, 3, 8, 1, 1, 2, 8, 8, 6, 2, 4, 3, 2, 2, 3, 3, 3, 2, 7, 2, 2, 10, 2, 8, 6, 2, 4, 5, 6, 10, 14, 7, 7, 3, 1, 3, 8, 5, 4, 14, 9, 8, 1, 1, 2, 2, 2, 2, 2, 4, 4, 3, 4, 3, 1, 1, 2, 2, 2, 3, 4, 3, 3, 2, 3, 2, 4, 2, 4, 1, 6, 4, 1, 2, 4, 2, 6, 3, 2, 1, 2, 3, 2, 1, 1, 5, 1, 3, 3, 4, 2, 2, 1, 2, 2, 2, 3, 2, 1, 2, 1, 5, 6, 2, 6, 5, 1, 2, 2, 3, 1, 2, 3, 4, 9, 3, 6, 5, 6, 3, 5, 2, 3, 10, 5, 2, 5, 4, 8, 6, 2, 6, 4, 6, 4, 5, 3, 3, 3, 9, 6, 4, 2, 4, 9, 9, 8, 4, 1, 1, 1, 2, 3, 2, 6, 2, 5, 8, 2, 5, 5, 5, 2, 4, 5, 5, 6, 3, 9, 3, 4, 8, 14, 8, 7, 3, 3, 7, 8, 5, 2, 6, 4, 2, 4, 5, 8, 1, 1, 2, 3, 2, 3, 1, 3, 1, 2, 3, 2, 2, 3, 1, 3, 3, 2, 4, 2, 1, 3, 3, 2, 2, 2, 3, 1, 10, 2, 2]
def tp_ml (k : Nat) : Nat := tp_mls[k]?.getD 0
